/-! contracts of the reference: line -/
set_option maxRecDepth 100000
def HX3_line_0 (Q : Option AV → MS → Prop) (b : AH) (s : MS) (f6 : Int → Int) (f7 : Int → Int) (f8 : Int → Int) (f9 : Int → Int) (k7 : Int) (k8 : Int) (k9 : Int) (k10 : Int) (k11 : Int) (k12 : Int) (k13 : Int) (k21 : Int) : Prop := MW mX3_line 7 Q b 0 [(0, vR 351)] [] (sS (sS (sS (sS (sS (sS (sS (sS (sA (sA (sA (sA s 6 f6) 7 f7) 8 f8) 9 f9) 7 k7) 8 k8) 9 k9) 10 k10) 11 k11) 12 k12) 13 k13) 21 k21)
def HX3_line_31 (Q : Option AV → MS → Prop) (b : AH) (s : MS) (x1 : Int) (x2 : Int) (f6 : Int → Int) (f7 : Int → Int) (f8 : Int → Int) (f9 : Int → Int) (k7 : Int) (k8 : Int) (k9 : Int) (k10 : Int) (k11 : Int) (k12 : Int) (k13 : Int) (k21 : Int) : Prop := MW mX3_line 7 Q b 31 [(0, vR 351), (1, vI x1), (2, vI x2)] [] (sS (sS (sS (sS (sS (sS (sS (sS (sA (sA (sA (sA s 6 f6) 7 f7) 8 f8) 9 f9) 7 k7) 8 k8) 9 k9) 10 k10) 11 k11) 12 k12) 13 k13) 21 k21)
def HX3_line_77 (Q : Option AV → MS → Prop) (b : AH) (s : MS) (x1 : Int) (f6 : Int → Int) (f7 : Int → Int) (f8 : Int → Int) (f9 : Int → Int) (k7 : Int) (k8 : Int) (k9 : Int) (k10 : Int) (k11 : Int) (k12 : Int) (k13 : Int) (k21 : Int) : Prop := MW mX3_line 7 Q b 77 [(0, vR 351), (1, vI x1)] [] (sS (sS (sS (sS (sS (sS (sS (sS (sA (sA (sA (sA s 6 f6) 7 f7) 8 f8) 9 f9) 7 k7) 8 k8) 9 k9) 10 k10) 11 k11) 12 k12) 13 k13) 21 k21)
theorem bX3_line_0 {Q : Option AV → MS → Prop} (b : AH) (s : MS) (f6 : Int → Int) (f7 : Int → Int) (f8 : Int → Int) (f9 : Int → Int) (k7 : Int) (k8 : Int) (k9 : Int) (k10 : Int) (k11 : Int) (k12 : Int) (k13 : Int) (k21 : Int) (K : ((bI (k12 = 0 ∧ k8 = 1 ∧ k11 = (2427955 : Int))) = 0 → HX3_line_31 Q b s (bI (k12 = 0 ∧ k8 = 1 ∧ k11 = (382984 : Int))) (bI (k12 = 0 ∧ k8 = 1 ∧ k11 = (212302449 : Int))) f6 f7 f8 f9 k7 k8 k9 k10 k11 k12 k13 k21) ∧ (¬ (bI (k12 = 0 ∧ k8 = 1 ∧ k11 = (2427955 : Int))) = 0 → (0 ≤ k7 ∧ k7 ≤ (s.1 6) ∧ (s.1 6) ≤ 800 ∧ (0 ≤ f6 24 ∧ f6 24 ≤ 100) ∧ (k21 = 0 → f6 27 = 0)) ∧ ((∀ (f_6 : Int → Int) (f_7 : Int → Int) (k_8 : Int) (k_9 : Int) (k_10 : Int) (k_11 : Int) (k_12 : Int) (k_13 : Int) (k_14 : Int) (k_15 : Int), (doQ (s.2 4) (s.1 6) (rep f6 f7 f8 f9 k21) k7 k8 k9 k10 k11 k12 k13 k_8 k_9 k_10 k_11 k_12 k_13 k_14 (rep f_6 f_7 f8 f9 k_15) ∧ (∀ z, z ≠ 27 → f_6 z = f6 z) ∧ (∀ z, z < 96 → f_7 z = f7 z) ∧ (0 ≤ f_6 27 ∧ f_6 27 ≤ 12 ∨ f_6 27 = f6 27)) → Q none (sS (sS (sS (sS (sS (sS (sS (sS (sA (sA (sA (sA s 6 f_6) 7 f_7) 8 f8) 9 f9) 7 k_8) 8 k_9) 9 k_10) 10 k_11) 11 k_12) 12 k_13) 13 k_14) 21 k_15))))) : HX3_line_0 Q b s f6 f7 f8 f9 k7 k8 k9 k10 k11 k12 k13 k21 := by
  refine JW.aload_n dX3_line_0 rfl ?_
  refine JW.ldc2 (x := 382984) dX3_line_1 q1734 rfl ?_
  refine JW.mcall (As := [vL 382984]) dX3_line_4 vX3_is rfl q1704 (ctX3_is b (sS (sS (sS (sS (sS (sS (sS (sS (sA (sA (sA (sA s 6 f6) 7 f7) 8 f8) 9 f9) 7 k7) 8 k8) 9 k9) 10 k10) 11 k11) 12 k12) 13 k13) 21 k21) 382984) (Nat.le_of_ble_eq_true rfl) rfl (Nat.le_of_ble_eq_true rfl) ?_
  rintro _ _ ⟨rfl, eq_1⟩
  refine JW.steq (s2 := sS (sS (sS (sS (sS (sS (sS (sS (sA (sA (sA (sA s 6 f6) 7 f7) 8 f8) 9 f9) 7 k7) 8 k8) 9 k9) 10 k10) 11 k11) 12 k12) 13 k13) 21 k21) eq_1 ?_
  refine JW.istore_n (ls' := [(0, vR 351), (1, vI (bI (k12 = 0 ∧ k8 = 1 ∧ k11 = (382984 : Int))))]) dX3_line_7 (Nat.le_of_ble_eq_true rfl) rfl ?_
  refine JW.aload_n dX3_line_8 rfl ?_
  refine JW.ldc2 (x := 212302449) dX3_line_9 q1735 rfl ?_
  refine JW.mcall (As := [vL 212302449]) dX3_line_12 vX3_is rfl q1704 (ctX3_is b (sS (sS (sS (sS (sS (sS (sS (sS (sA (sA (sA (sA s 6 f6) 7 f7) 8 f8) 9 f9) 7 k7) 8 k8) 9 k9) 10 k10) 11 k11) 12 k12) 13 k13) 21 k21) 212302449) (Nat.le_of_ble_eq_true rfl) rfl (Nat.le_of_ble_eq_true rfl) ?_
  rintro _ _ ⟨rfl, eq_2⟩
  refine JW.steq (s2 := sS (sS (sS (sS (sS (sS (sS (sS (sA (sA (sA (sA s 6 f6) 7 f7) 8 f8) 9 f9) 7 k7) 8 k8) 9 k9) 10 k10) 11 k11) 12 k12) 13 k13) 21 k21) eq_2 ?_
  refine JW.istore_n (ls' := [(0, vR 351), (1, vI (bI (k12 = 0 ∧ k8 = 1 ∧ k11 = (382984 : Int)))), (2, vI (bI (k12 = 0 ∧ k8 = 1 ∧ k11 = (212302449 : Int))))]) dX3_line_15 (Nat.le_of_ble_eq_true rfl) rfl ?_
  refine JW.aload_n dX3_line_16 rfl ?_
  refine JW.ldc2 (x := 2427955) dX3_line_17 q1736 rfl ?_
  refine JW.mcall (As := [vL 2427955]) dX3_line_20 vX3_is rfl q1704 (ctX3_is b (sS (sS (sS (sS (sS (sS (sS (sS (sA (sA (sA (sA s 6 f6) 7 f7) 8 f8) 9 f9) 7 k7) 8 k8) 9 k9) 10 k10) 11 k11) 12 k12) 13 k13) 21 k21) 2427955) (Nat.le_of_ble_eq_true rfl) rfl (Nat.le_of_ble_eq_true rfl) ?_
  rintro _ _ ⟨rfl, eq_3⟩
  refine JW.steq (s2 := sS (sS (sS (sS (sS (sS (sS (sS (sA (sA (sA (sA s 6 f6) 7 f7) 8 f8) 9 f9) 7 k7) 8 k8) 9 k9) 10 k10) 11 k11) 12 k12) 13 k13) 21 k21) eq_3 ?_
  refine JW.if_eq (tgt := 31) dX3_line_23 rfl (fun c_4 => ?_) (fun c_4 => ?_)
  · have K := K.1 c_4
    exact JW.pick [0, 1, 2] rfl K
  · have K := K.2 c_4
    refine JW.aload_n dX3_line_26 rfl ?_
    obtain ⟨o_5, K⟩ := K
    refine JW.mcall (As := []) dX3_line_27 vX3_doing rfl q1737 (ctX3_doing b (sS (sS (sS (sS (sS (sS (sS (sS (sA (sA (sA (sA s 6 f6) 7 f7) 8 f8) 9 f9) 7 k7) 8 k8) 9 k9) 10 k10) 11 k11) 12 k12) 13 k13) 21 k21) o_5) (Nat.le_of_ble_eq_true rfl) rfl (Nat.le_of_ble_eq_true rfl) ?_
    rintro _ _ ⟨f_6, f_7, k_8, k_9, k_10, k_11, k_12, k_13, k_14, k_15, rfl, rfl, q_16⟩
    refine JW.steq (s2 := sS (sS (sS (sS (sS (sS (sS (sS (sA (sA (sA (sA s 6 f_6) 7 f_7) 8 f8) 9 f9) 7 k_8) 8 k_9) 9 k_10) 10 k_11) 11 k_12) 12 k_13) 13 k_14) 21 k_15) (by simp only [sA_A, sS_S, sA_S, sA_lt, sS_lt, Nat.reduceLT, id_eq] <;> rfl) ?_
    replace K := K f_6 f_7 k_8 k_9 k_10 k_11 k_12 k_13 k_14 k_15 q_16
    exact JW.vreturn dX3_line_30 rfl ⟨_, rfl, K⟩
theorem bX3_line_31 {Q : Option AV → MS → Prop} (b : AH) (s : MS) (x1 : Int) (x2 : Int) (f6 : Int → Int) (f7 : Int → Int) (f8 : Int → Int) (f9 : Int → Int) (k7 : Int) (k8 : Int) (k9 : Int) (k10 : Int) (k11 : Int) (k12 : Int) (k13 : Int) (k21 : Int) (K : (¬ x1 = 0 → (x1 = 0 → (x2 = 0 → HX3_line_77 Q b s x1 f6 f7 f8 f9 k7 k8 k9 k10 k11 k12 k13 k21) ∧ (¬ x2 = 0 → (0 ≤ (5 : Int) ∧ (5 : Int) < 6) ∧ ((¬ (f6 (24 + (5 : Int))) = 20 → HX3_line_77 Q b s x1 f6 f7 f8 f9 k7 k8 k9 k10 k11 k12 k13 k21) ∧ ((f6 (24 + (5 : Int))) = 20 → HX3_line_77 Q b s x1 f6 f7 f8 f9 k7 k8 k9 k10 k11 (if k12 = 0 then (3 : Int) else k12) (if k12 = 0 then k9 else k13) k21)))) ∧ (¬ x1 = 0 → (0 ≤ (4 : Int) ∧ (4 : Int) < 6) ∧ (((f6 (24 + (4 : Int))) = 6 → HX3_line_77 Q b s x1 f6 f7 f8 f9 k7 k8 k9 k10 k11 (if k12 = 0 then (3 : Int) else k12) (if k12 = 0 then k9 else k13) k21) ∧ (¬ (f6 (24 + (4 : Int))) = 6 → (x2 = 0 → HX3_line_77 Q b s x1 f6 f7 f8 f9 k7 k8 k9 k10 k11 k12 k13 k21) ∧ (¬ x2 = 0 → (0 ≤ (5 : Int) ∧ (5 : Int) < 6) ∧ ((¬ (f6 (24 + (5 : Int))) = 20 → HX3_line_77 Q b s x1 f6 f7 f8 f9 k7 k8 k9 k10 k11 k12 k13 k21) ∧ ((f6 (24 + (5 : Int))) = 20 → HX3_line_77 Q b s x1 f6 f7 f8 f9 k7 k8 k9 k10 k11 (if k12 = 0 then (3 : Int) else k12) (if k12 = 0 then k9 else k13) k21))))))) ∧ (x1 = 0 → (¬ x2 = 0 → (x1 = 0 → (x2 = 0 → HX3_line_77 Q b s x1 f6 f7 f8 f9 k7 k8 k9 k10 k11 k12 k13 k21) ∧ (¬ x2 = 0 → (0 ≤ (5 : Int) ∧ (5 : Int) < 6) ∧ ((¬ (f6 (24 + (5 : Int))) = 20 → HX3_line_77 Q b s x1 f6 f7 f8 f9 k7 k8 k9 k10 k11 k12 k13 k21) ∧ ((f6 (24 + (5 : Int))) = 20 → HX3_line_77 Q b s x1 f6 f7 f8 f9 k7 k8 k9 k10 k11 (if k12 = 0 then (3 : Int) else k12) (if k12 = 0 then k9 else k13) k21)))) ∧ (¬ x1 = 0 → (0 ≤ (4 : Int) ∧ (4 : Int) < 6) ∧ (((f6 (24 + (4 : Int))) = 6 → HX3_line_77 Q b s x1 f6 f7 f8 f9 k7 k8 k9 k10 k11 (if k12 = 0 then (3 : Int) else k12) (if k12 = 0 then k9 else k13) k21) ∧ (¬ (f6 (24 + (4 : Int))) = 6 → (x2 = 0 → HX3_line_77 Q b s x1 f6 f7 f8 f9 k7 k8 k9 k10 k11 k12 k13 k21) ∧ (¬ x2 = 0 → (0 ≤ (5 : Int) ∧ (5 : Int) < 6) ∧ ((¬ (f6 (24 + (5 : Int))) = 20 → HX3_line_77 Q b s x1 f6 f7 f8 f9 k7 k8 k9 k10 k11 k12 k13 k21) ∧ ((f6 (24 + (5 : Int))) = 20 → HX3_line_77 Q b s x1 f6 f7 f8 f9 k7 k8 k9 k10 k11 (if k12 = 0 then (3 : Int) else k12) (if k12 = 0 then k9 else k13) k21))))))) ∧ (x2 = 0 → (x1 = 0 → (x2 = 0 → HX3_line_77 Q b s x1 f6 f7 f8 f9 k7 k8 k9 k10 k11 (if k12 = 0 then (1 : Int) else k12) (if k12 = 0 then k9 else k13) k21) ∧ (¬ x2 = 0 → (0 ≤ (5 : Int) ∧ (5 : Int) < 6) ∧ ((¬ (f6 (24 + (5 : Int))) = 20 → HX3_line_77 Q b s x1 f6 f7 f8 f9 k7 k8 k9 k10 k11 (if k12 = 0 then (1 : Int) else k12) (if k12 = 0 then k9 else k13) k21) ∧ ((f6 (24 + (5 : Int))) = 20 → HX3_line_77 Q b s x1 f6 f7 f8 f9 k7 k8 k9 k10 k11 (if (if k12 = 0 then (1 : Int) else k12) = 0 then (3 : Int) else (if k12 = 0 then (1 : Int) else k12)) (if (if k12 = 0 then (1 : Int) else k12) = 0 then k9 else (if k12 = 0 then k9 else k13)) k21)))) ∧ (¬ x1 = 0 → (0 ≤ (4 : Int) ∧ (4 : Int) < 6) ∧ (((f6 (24 + (4 : Int))) = 6 → HX3_line_77 Q b s x1 f6 f7 f8 f9 k7 k8 k9 k10 k11 (if (if k12 = 0 then (1 : Int) else k12) = 0 then (3 : Int) else (if k12 = 0 then (1 : Int) else k12)) (if (if k12 = 0 then (1 : Int) else k12) = 0 then k9 else (if k12 = 0 then k9 else k13)) k21) ∧ (¬ (f6 (24 + (4 : Int))) = 6 → (x2 = 0 → HX3_line_77 Q b s x1 f6 f7 f8 f9 k7 k8 k9 k10 k11 (if k12 = 0 then (1 : Int) else k12) (if k12 = 0 then k9 else k13) k21) ∧ (¬ x2 = 0 → (0 ≤ (5 : Int) ∧ (5 : Int) < 6) ∧ ((¬ (f6 (24 + (5 : Int))) = 20 → HX3_line_77 Q b s x1 f6 f7 f8 f9 k7 k8 k9 k10 k11 (if k12 = 0 then (1 : Int) else k12) (if k12 = 0 then k9 else k13) k21) ∧ ((f6 (24 + (5 : Int))) = 20 → HX3_line_77 Q b s x1 f6 f7 f8 f9 k7 k8 k9 k10 k11 (if (if k12 = 0 then (1 : Int) else k12) = 0 then (3 : Int) else (if k12 = 0 then (1 : Int) else k12)) (if (if k12 = 0 then (1 : Int) else k12) = 0 then k9 else (if k12 = 0 then k9 else k13)) k21))))))))) : HX3_line_31 Q b s x1 x2 f6 f7 f8 f9 k7 k8 k9 k10 k11 k12 k13 k21 := by
  refine JW.iload_n dX3_line_31 rfl ?_
  refine JW.if_ne (tgt := 44) dX3_line_32 rfl (fun c_1 => ?_) (fun c_1 => ?_)
  · have K := K.1 c_1
    refine JW.iload_n dX3_line_44 rfl ?_
    refine JW.if_eq (tgt := 58) dX3_line_45 rfl (fun c_2 => ?_) (fun c_2 => ?_)
    · have K := K.1 c_2
      refine JW.iload_n dX3_line_58 rfl ?_
      refine JW.if_eq (tgt := 77) dX3_line_59 rfl (fun c_3 => ?_) (fun c_3 => ?_)
      · have K := K.1 c_3
        exact JW.pick [0, 1] rfl K
      · have K := K.2 c_3
        refine JW.aload_n dX3_line_62 rfl ?_
        refine JW.iconst dX3_line_63 rfl ?_
        obtain ⟨o_4, K⟩ := K
        refine JW.mcall (As := [vI 5]) dX3_line_64 vX3_many rfl q1723 (ctX3_many b (sS (sS (sS (sS (sS (sS (sS (sS (sA (sA (sA (sA s 6 f6) 7 f7) 8 f8) 9 f9) 7 k7) 8 k8) 9 k9) 10 k10) 11 k11) 12 k12) 13 k13) 21 k21) 5 o_4) (Nat.le_of_ble_eq_true rfl) rfl (Nat.le_of_ble_eq_true rfl) ?_
        rintro _ _ ⟨rfl, eq_5⟩
        refine JW.steq (s2 := sS (sS (sS (sS (sS (sS (sS (sS (sA (sA (sA (sA s 6 f6) 7 f7) 8 f8) 9 f9) 7 k7) 8 k8) 9 k9) 10 k10) 11 k11) 12 k12) 13 k13) 21 k21) eq_5 ?_
        refine JW.bipush dX3_line_67 rfl ?_
        refine JW.icmp_ne (tgt := 77) dX3_line_69 rfl (fun c_6 => ?_) (fun c_6 => ?_)
        · have K := K.1 c_6
          exact JW.pick [0, 1] rfl K
        · have K := K.2 c_6
          refine JW.aload_n dX3_line_72 rfl ?_
          refine JW.iconst dX3_line_73 rfl ?_
          refine JW.mcall (As := [vI 3]) dX3_line_74 vX3_fails rfl q1708 (ctX3_fails b (sS (sS (sS (sS (sS (sS (sS (sS (sA (sA (sA (sA s 6 f6) 7 f7) 8 f8) 9 f9) 7 k7) 8 k8) 9 k9) 10 k10) 11 k11) 12 k12) 13 k13) 21 k21) 3) (Nat.le_of_ble_eq_true rfl) rfl (Nat.le_of_ble_eq_true rfl) ?_
          rintro _ _ ⟨rfl, rfl⟩
          refine JW.steq (s2 := sS (sS (sS (sS (sS (sS (sS (sS (sA (sA (sA (sA s 6 f6) 7 f7) 8 f8) 9 f9) 7 k7) 8 k8) 9 k9) 10 k10) 11 k11) 12 (if k12 = 0 then (3 : Int) else k12)) 13 (if k12 = 0 then k9 else k13)) 21 k21) (by simp only [sA_A, sS_S, sA_S, sA_lt, sS_lt, Nat.reduceLT, id_eq] <;> rfl) ?_
          exact JW.pick [0, 1] rfl K
    · have K := K.2 c_2
      refine JW.aload_n dX3_line_48 rfl ?_
      refine JW.iconst dX3_line_49 rfl ?_
      obtain ⟨o_8, K⟩ := K
      refine JW.mcall (As := [vI 4]) dX3_line_50 vX3_many rfl q1723 (ctX3_many b (sS (sS (sS (sS (sS (sS (sS (sS (sA (sA (sA (sA s 6 f6) 7 f7) 8 f8) 9 f9) 7 k7) 8 k8) 9 k9) 10 k10) 11 k11) 12 k12) 13 k13) 21 k21) 4 o_8) (Nat.le_of_ble_eq_true rfl) rfl (Nat.le_of_ble_eq_true rfl) ?_
      rintro _ _ ⟨rfl, eq_9⟩
      refine JW.steq (s2 := sS (sS (sS (sS (sS (sS (sS (sS (sA (sA (sA (sA s 6 f6) 7 f7) 8 f8) 9 f9) 7 k7) 8 k8) 9 k9) 10 k10) 11 k11) 12 k12) 13 k13) 21 k21) eq_9 ?_
      refine JW.bipush dX3_line_53 rfl ?_
      refine JW.icmp_eq (tgt := 72) dX3_line_55 rfl (fun c_10 => ?_) (fun c_10 => ?_)
      · have K := K.1 c_10
        refine JW.aload_n dX3_line_72 rfl ?_
        refine JW.iconst dX3_line_73 rfl ?_
        refine JW.mcall (As := [vI 3]) dX3_line_74 vX3_fails rfl q1708 (ctX3_fails b (sS (sS (sS (sS (sS (sS (sS (sS (sA (sA (sA (sA s 6 f6) 7 f7) 8 f8) 9 f9) 7 k7) 8 k8) 9 k9) 10 k10) 11 k11) 12 k12) 13 k13) 21 k21) 3) (Nat.le_of_ble_eq_true rfl) rfl (Nat.le_of_ble_eq_true rfl) ?_
        rintro _ _ ⟨rfl, rfl⟩
        refine JW.steq (s2 := sS (sS (sS (sS (sS (sS (sS (sS (sA (sA (sA (sA s 6 f6) 7 f7) 8 f8) 9 f9) 7 k7) 8 k8) 9 k9) 10 k10) 11 k11) 12 (if k12 = 0 then (3 : Int) else k12)) 13 (if k12 = 0 then k9 else k13)) 21 k21) (by simp only [sA_A, sS_S, sA_S, sA_lt, sS_lt, Nat.reduceLT, id_eq] <;> rfl) ?_
        exact JW.pick [0, 1] rfl K
      · have K := K.2 c_10
        refine JW.iload_n dX3_line_58 rfl ?_
        refine JW.if_eq (tgt := 77) dX3_line_59 rfl (fun c_12 => ?_) (fun c_12 => ?_)
        · have K := K.1 c_12
          exact JW.pick [0, 1] rfl K
        · have K := K.2 c_12
          refine JW.aload_n dX3_line_62 rfl ?_
          refine JW.iconst dX3_line_63 rfl ?_
          obtain ⟨o_13, K⟩ := K
          refine JW.mcall (As := [vI 5]) dX3_line_64 vX3_many rfl q1723 (ctX3_many b (sS (sS (sS (sS (sS (sS (sS (sS (sA (sA (sA (sA s 6 f6) 7 f7) 8 f8) 9 f9) 7 k7) 8 k8) 9 k9) 10 k10) 11 k11) 12 k12) 13 k13) 21 k21) 5 o_13) (Nat.le_of_ble_eq_true rfl) rfl (Nat.le_of_ble_eq_true rfl) ?_
          rintro _ _ ⟨rfl, eq_14⟩
          refine JW.steq (s2 := sS (sS (sS (sS (sS (sS (sS (sS (sA (sA (sA (sA s 6 f6) 7 f7) 8 f8) 9 f9) 7 k7) 8 k8) 9 k9) 10 k10) 11 k11) 12 k12) 13 k13) 21 k21) eq_14 ?_
          refine JW.bipush dX3_line_67 rfl ?_
          refine JW.icmp_ne (tgt := 77) dX3_line_69 rfl (fun c_15 => ?_) (fun c_15 => ?_)
          · have K := K.1 c_15
            exact JW.pick [0, 1] rfl K
          · have K := K.2 c_15
            refine JW.aload_n dX3_line_72 rfl ?_
            refine JW.iconst dX3_line_73 rfl ?_
            refine JW.mcall (As := [vI 3]) dX3_line_74 vX3_fails rfl q1708 (ctX3_fails b (sS (sS (sS (sS (sS (sS (sS (sS (sA (sA (sA (sA s 6 f6) 7 f7) 8 f8) 9 f9) 7 k7) 8 k8) 9 k9) 10 k10) 11 k11) 12 k12) 13 k13) 21 k21) 3) (Nat.le_of_ble_eq_true rfl) rfl (Nat.le_of_ble_eq_true rfl) ?_
            rintro _ _ ⟨rfl, rfl⟩
            refine JW.steq (s2 := sS (sS (sS (sS (sS (sS (sS (sS (sA (sA (sA (sA s 6 f6) 7 f7) 8 f8) 9 f9) 7 k7) 8 k8) 9 k9) 10 k10) 11 k11) 12 (if k12 = 0 then (3 : Int) else k12)) 13 (if k12 = 0 then k9 else k13)) 21 k21) (by simp only [sA_A, sS_S, sA_S, sA_lt, sS_lt, Nat.reduceLT, id_eq] <;> rfl) ?_
            exact JW.pick [0, 1] rfl K
  · have K := K.2 c_1
    refine JW.iload_n dX3_line_35 rfl ?_
    refine JW.if_ne (tgt := 44) dX3_line_36 rfl (fun c_17 => ?_) (fun c_17 => ?_)
    · have K := K.1 c_17
      refine JW.iload_n dX3_line_44 rfl ?_
      refine JW.if_eq (tgt := 58) dX3_line_45 rfl (fun c_18 => ?_) (fun c_18 => ?_)
      · have K := K.1 c_18
        refine JW.iload_n dX3_line_58 rfl ?_
        refine JW.if_eq (tgt := 77) dX3_line_59 rfl (fun c_19 => ?_) (fun c_19 => ?_)
        · have K := K.1 c_19
          exact JW.pick [0, 1] rfl K
        · have K := K.2 c_19
          refine JW.aload_n dX3_line_62 rfl ?_
          refine JW.iconst dX3_line_63 rfl ?_
          obtain ⟨o_20, K⟩ := K
          refine JW.mcall (As := [vI 5]) dX3_line_64 vX3_many rfl q1723 (ctX3_many b (sS (sS (sS (sS (sS (sS (sS (sS (sA (sA (sA (sA s 6 f6) 7 f7) 8 f8) 9 f9) 7 k7) 8 k8) 9 k9) 10 k10) 11 k11) 12 k12) 13 k13) 21 k21) 5 o_20) (Nat.le_of_ble_eq_true rfl) rfl (Nat.le_of_ble_eq_true rfl) ?_
          rintro _ _ ⟨rfl, eq_21⟩
          refine JW.steq (s2 := sS (sS (sS (sS (sS (sS (sS (sS (sA (sA (sA (sA s 6 f6) 7 f7) 8 f8) 9 f9) 7 k7) 8 k8) 9 k9) 10 k10) 11 k11) 12 k12) 13 k13) 21 k21) eq_21 ?_
          refine JW.bipush dX3_line_67 rfl ?_
          refine JW.icmp_ne (tgt := 77) dX3_line_69 rfl (fun c_22 => ?_) (fun c_22 => ?_)
          · have K := K.1 c_22
            exact JW.pick [0, 1] rfl K
          · have K := K.2 c_22
            refine JW.aload_n dX3_line_72 rfl ?_
            refine JW.iconst dX3_line_73 rfl ?_
            refine JW.mcall (As := [vI 3]) dX3_line_74 vX3_fails rfl q1708 (ctX3_fails b (sS (sS (sS (sS (sS (sS (sS (sS (sA (sA (sA (sA s 6 f6) 7 f7) 8 f8) 9 f9) 7 k7) 8 k8) 9 k9) 10 k10) 11 k11) 12 k12) 13 k13) 21 k21) 3) (Nat.le_of_ble_eq_true rfl) rfl (Nat.le_of_ble_eq_true rfl) ?_
            rintro _ _ ⟨rfl, rfl⟩
            refine JW.steq (s2 := sS (sS (sS (sS (sS (sS (sS (sS (sA (sA (sA (sA s 6 f6) 7 f7) 8 f8) 9 f9) 7 k7) 8 k8) 9 k9) 10 k10) 11 k11) 12 (if k12 = 0 then (3 : Int) else k12)) 13 (if k12 = 0 then k9 else k13)) 21 k21) (by simp only [sA_A, sS_S, sA_S, sA_lt, sS_lt, Nat.reduceLT, id_eq] <;> rfl) ?_
            exact JW.pick [0, 1] rfl K
      · have K := K.2 c_18
        refine JW.aload_n dX3_line_48 rfl ?_
        refine JW.iconst dX3_line_49 rfl ?_
        obtain ⟨o_24, K⟩ := K
        refine JW.mcall (As := [vI 4]) dX3_line_50 vX3_many rfl q1723 (ctX3_many b (sS (sS (sS (sS (sS (sS (sS (sS (sA (sA (sA (sA s 6 f6) 7 f7) 8 f8) 9 f9) 7 k7) 8 k8) 9 k9) 10 k10) 11 k11) 12 k12) 13 k13) 21 k21) 4 o_24) (Nat.le_of_ble_eq_true rfl) rfl (Nat.le_of_ble_eq_true rfl) ?_
        rintro _ _ ⟨rfl, eq_25⟩
        refine JW.steq (s2 := sS (sS (sS (sS (sS (sS (sS (sS (sA (sA (sA (sA s 6 f6) 7 f7) 8 f8) 9 f9) 7 k7) 8 k8) 9 k9) 10 k10) 11 k11) 12 k12) 13 k13) 21 k21) eq_25 ?_
        refine JW.bipush dX3_line_53 rfl ?_
        refine JW.icmp_eq (tgt := 72) dX3_line_55 rfl (fun c_26 => ?_) (fun c_26 => ?_)
        · have K := K.1 c_26
          refine JW.aload_n dX3_line_72 rfl ?_
          refine JW.iconst dX3_line_73 rfl ?_
          refine JW.mcall (As := [vI 3]) dX3_line_74 vX3_fails rfl q1708 (ctX3_fails b (sS (sS (sS (sS (sS (sS (sS (sS (sA (sA (sA (sA s 6 f6) 7 f7) 8 f8) 9 f9) 7 k7) 8 k8) 9 k9) 10 k10) 11 k11) 12 k12) 13 k13) 21 k21) 3) (Nat.le_of_ble_eq_true rfl) rfl (Nat.le_of_ble_eq_true rfl) ?_
          rintro _ _ ⟨rfl, rfl⟩
          refine JW.steq (s2 := sS (sS (sS (sS (sS (sS (sS (sS (sA (sA (sA (sA s 6 f6) 7 f7) 8 f8) 9 f9) 7 k7) 8 k8) 9 k9) 10 k10) 11 k11) 12 (if k12 = 0 then (3 : Int) else k12)) 13 (if k12 = 0 then k9 else k13)) 21 k21) (by simp only [sA_A, sS_S, sA_S, sA_lt, sS_lt, Nat.reduceLT, id_eq] <;> rfl) ?_
          exact JW.pick [0, 1] rfl K
        · have K := K.2 c_26
          refine JW.iload_n dX3_line_58 rfl ?_
          refine JW.if_eq (tgt := 77) dX3_line_59 rfl (fun c_28 => ?_) (fun c_28 => ?_)
          · have K := K.1 c_28
            exact JW.pick [0, 1] rfl K
          · have K := K.2 c_28
            refine JW.aload_n dX3_line_62 rfl ?_
            refine JW.iconst dX3_line_63 rfl ?_
            obtain ⟨o_29, K⟩ := K
            refine JW.mcall (As := [vI 5]) dX3_line_64 vX3_many rfl q1723 (ctX3_many b (sS (sS (sS (sS (sS (sS (sS (sS (sA (sA (sA (sA s 6 f6) 7 f7) 8 f8) 9 f9) 7 k7) 8 k8) 9 k9) 10 k10) 11 k11) 12 k12) 13 k13) 21 k21) 5 o_29) (Nat.le_of_ble_eq_true rfl) rfl (Nat.le_of_ble_eq_true rfl) ?_
            rintro _ _ ⟨rfl, eq_30⟩
            refine JW.steq (s2 := sS (sS (sS (sS (sS (sS (sS (sS (sA (sA (sA (sA s 6 f6) 7 f7) 8 f8) 9 f9) 7 k7) 8 k8) 9 k9) 10 k10) 11 k11) 12 k12) 13 k13) 21 k21) eq_30 ?_
            refine JW.bipush dX3_line_67 rfl ?_
            refine JW.icmp_ne (tgt := 77) dX3_line_69 rfl (fun c_31 => ?_) (fun c_31 => ?_)
            · have K := K.1 c_31
              exact JW.pick [0, 1] rfl K
            · have K := K.2 c_31
              refine JW.aload_n dX3_line_72 rfl ?_
              refine JW.iconst dX3_line_73 rfl ?_
              refine JW.mcall (As := [vI 3]) dX3_line_74 vX3_fails rfl q1708 (ctX3_fails b (sS (sS (sS (sS (sS (sS (sS (sS (sA (sA (sA (sA s 6 f6) 7 f7) 8 f8) 9 f9) 7 k7) 8 k8) 9 k9) 10 k10) 11 k11) 12 k12) 13 k13) 21 k21) 3) (Nat.le_of_ble_eq_true rfl) rfl (Nat.le_of_ble_eq_true rfl) ?_
              rintro _ _ ⟨rfl, rfl⟩
              refine JW.steq (s2 := sS (sS (sS (sS (sS (sS (sS (sS (sA (sA (sA (sA s 6 f6) 7 f7) 8 f8) 9 f9) 7 k7) 8 k8) 9 k9) 10 k10) 11 k11) 12 (if k12 = 0 then (3 : Int) else k12)) 13 (if k12 = 0 then k9 else k13)) 21 k21) (by simp only [sA_A, sS_S, sA_S, sA_lt, sS_lt, Nat.reduceLT, id_eq] <;> rfl) ?_
              exact JW.pick [0, 1] rfl K
    · have K := K.2 c_17
      refine JW.aload_n dX3_line_39 rfl ?_
      refine JW.iconst dX3_line_40 rfl ?_
      refine JW.mcall (As := [vI 1]) dX3_line_41 vX3_fails rfl q1708 (ctX3_fails b (sS (sS (sS (sS (sS (sS (sS (sS (sA (sA (sA (sA s 6 f6) 7 f7) 8 f8) 9 f9) 7 k7) 8 k8) 9 k9) 10 k10) 11 k11) 12 k12) 13 k13) 21 k21) 1) (Nat.le_of_ble_eq_true rfl) rfl (Nat.le_of_ble_eq_true rfl) ?_
      rintro _ _ ⟨rfl, rfl⟩
      refine JW.steq (s2 := sS (sS (sS (sS (sS (sS (sS (sS (sA (sA (sA (sA s 6 f6) 7 f7) 8 f8) 9 f9) 7 k7) 8 k8) 9 k9) 10 k10) 11 k11) 12 (if k12 = 0 then (1 : Int) else k12)) 13 (if k12 = 0 then k9 else k13)) 21 k21) (by simp only [sA_A, sS_S, sA_S, sA_lt, sS_lt, Nat.reduceLT, id_eq] <;> rfl) ?_
      refine JW.iload_n dX3_line_44 rfl ?_
      refine JW.if_eq (tgt := 58) dX3_line_45 rfl (fun c_34 => ?_) (fun c_34 => ?_)
      · have K := K.1 c_34
        refine JW.iload_n dX3_line_58 rfl ?_
        refine JW.if_eq (tgt := 77) dX3_line_59 rfl (fun c_35 => ?_) (fun c_35 => ?_)
        · have K := K.1 c_35
          exact JW.pick [0, 1] rfl K
        · have K := K.2 c_35
          refine JW.aload_n dX3_line_62 rfl ?_
          refine JW.iconst dX3_line_63 rfl ?_
          obtain ⟨o_36, K⟩ := K
          refine JW.mcall (As := [vI 5]) dX3_line_64 vX3_many rfl q1723 (ctX3_many b (sS (sS (sS (sS (sS (sS (sS (sS (sA (sA (sA (sA s 6 f6) 7 f7) 8 f8) 9 f9) 7 k7) 8 k8) 9 k9) 10 k10) 11 k11) 12 (if k12 = 0 then (1 : Int) else k12)) 13 (if k12 = 0 then k9 else k13)) 21 k21) 5 o_36) (Nat.le_of_ble_eq_true rfl) rfl (Nat.le_of_ble_eq_true rfl) ?_
          rintro _ _ ⟨rfl, eq_37⟩
          refine JW.steq (s2 := sS (sS (sS (sS (sS (sS (sS (sS (sA (sA (sA (sA s 6 f6) 7 f7) 8 f8) 9 f9) 7 k7) 8 k8) 9 k9) 10 k10) 11 k11) 12 (if k12 = 0 then (1 : Int) else k12)) 13 (if k12 = 0 then k9 else k13)) 21 k21) eq_37 ?_
          refine JW.bipush dX3_line_67 rfl ?_
          refine JW.icmp_ne (tgt := 77) dX3_line_69 rfl (fun c_38 => ?_) (fun c_38 => ?_)
          · have K := K.1 c_38
            exact JW.pick [0, 1] rfl K
          · have K := K.2 c_38
            refine JW.aload_n dX3_line_72 rfl ?_
            refine JW.iconst dX3_line_73 rfl ?_
            refine JW.mcall (As := [vI 3]) dX3_line_74 vX3_fails rfl q1708 (ctX3_fails b (sS (sS (sS (sS (sS (sS (sS (sS (sA (sA (sA (sA s 6 f6) 7 f7) 8 f8) 9 f9) 7 k7) 8 k8) 9 k9) 10 k10) 11 k11) 12 (if k12 = 0 then (1 : Int) else k12)) 13 (if k12 = 0 then k9 else k13)) 21 k21) 3) (Nat.le_of_ble_eq_true rfl) rfl (Nat.le_of_ble_eq_true rfl) ?_
            rintro _ _ ⟨rfl, rfl⟩
            refine JW.steq (s2 := sS (sS (sS (sS (sS (sS (sS (sS (sA (sA (sA (sA s 6 f6) 7 f7) 8 f8) 9 f9) 7 k7) 8 k8) 9 k9) 10 k10) 11 k11) 12 (if (if k12 = 0 then (1 : Int) else k12) = 0 then (3 : Int) else (if k12 = 0 then (1 : Int) else k12))) 13 (if (if k12 = 0 then (1 : Int) else k12) = 0 then k9 else (if k12 = 0 then k9 else k13))) 21 k21) (by simp only [sA_A, sS_S, sA_S, sA_lt, sS_lt, Nat.reduceLT, id_eq] <;> rfl) ?_
            exact JW.pick [0, 1] rfl K
      · have K := K.2 c_34
        refine JW.aload_n dX3_line_48 rfl ?_
        refine JW.iconst dX3_line_49 rfl ?_
        obtain ⟨o_40, K⟩ := K
        refine JW.mcall (As := [vI 4]) dX3_line_50 vX3_many rfl q1723 (ctX3_many b (sS (sS (sS (sS (sS (sS (sS (sS (sA (sA (sA (sA s 6 f6) 7 f7) 8 f8) 9 f9) 7 k7) 8 k8) 9 k9) 10 k10) 11 k11) 12 (if k12 = 0 then (1 : Int) else k12)) 13 (if k12 = 0 then k9 else k13)) 21 k21) 4 o_40) (Nat.le_of_ble_eq_true rfl) rfl (Nat.le_of_ble_eq_true rfl) ?_
        rintro _ _ ⟨rfl, eq_41⟩
        refine JW.steq (s2 := sS (sS (sS (sS (sS (sS (sS (sS (sA (sA (sA (sA s 6 f6) 7 f7) 8 f8) 9 f9) 7 k7) 8 k8) 9 k9) 10 k10) 11 k11) 12 (if k12 = 0 then (1 : Int) else k12)) 13 (if k12 = 0 then k9 else k13)) 21 k21) eq_41 ?_
        refine JW.bipush dX3_line_53 rfl ?_
        refine JW.icmp_eq (tgt := 72) dX3_line_55 rfl (fun c_42 => ?_) (fun c_42 => ?_)
        · have K := K.1 c_42
          refine JW.aload_n dX3_line_72 rfl ?_
          refine JW.iconst dX3_line_73 rfl ?_
          refine JW.mcall (As := [vI 3]) dX3_line_74 vX3_fails rfl q1708 (ctX3_fails b (sS (sS (sS (sS (sS (sS (sS (sS (sA (sA (sA (sA s 6 f6) 7 f7) 8 f8) 9 f9) 7 k7) 8 k8) 9 k9) 10 k10) 11 k11) 12 (if k12 = 0 then (1 : Int) else k12)) 13 (if k12 = 0 then k9 else k13)) 21 k21) 3) (Nat.le_of_ble_eq_true rfl) rfl (Nat.le_of_ble_eq_true rfl) ?_
          rintro _ _ ⟨rfl, rfl⟩
          refine JW.steq (s2 := sS (sS (sS (sS (sS (sS (sS (sS (sA (sA (sA (sA s 6 f6) 7 f7) 8 f8) 9 f9) 7 k7) 8 k8) 9 k9) 10 k10) 11 k11) 12 (if (if k12 = 0 then (1 : Int) else k12) = 0 then (3 : Int) else (if k12 = 0 then (1 : Int) else k12))) 13 (if (if k12 = 0 then (1 : Int) else k12) = 0 then k9 else (if k12 = 0 then k9 else k13))) 21 k21) (by simp only [sA_A, sS_S, sA_S, sA_lt, sS_lt, Nat.reduceLT, id_eq] <;> rfl) ?_
          exact JW.pick [0, 1] rfl K
        · have K := K.2 c_42
          refine JW.iload_n dX3_line_58 rfl ?_
          refine JW.if_eq (tgt := 77) dX3_line_59 rfl (fun c_44 => ?_) (fun c_44 => ?_)
          · have K := K.1 c_44
            exact JW.pick [0, 1] rfl K
          · have K := K.2 c_44
            refine JW.aload_n dX3_line_62 rfl ?_
            refine JW.iconst dX3_line_63 rfl ?_
            obtain ⟨o_45, K⟩ := K
            refine JW.mcall (As := [vI 5]) dX3_line_64 vX3_many rfl q1723 (ctX3_many b (sS (sS (sS (sS (sS (sS (sS (sS (sA (sA (sA (sA s 6 f6) 7 f7) 8 f8) 9 f9) 7 k7) 8 k8) 9 k9) 10 k10) 11 k11) 12 (if k12 = 0 then (1 : Int) else k12)) 13 (if k12 = 0 then k9 else k13)) 21 k21) 5 o_45) (Nat.le_of_ble_eq_true rfl) rfl (Nat.le_of_ble_eq_true rfl) ?_
            rintro _ _ ⟨rfl, eq_46⟩
            refine JW.steq (s2 := sS (sS (sS (sS (sS (sS (sS (sS (sA (sA (sA (sA s 6 f6) 7 f7) 8 f8) 9 f9) 7 k7) 8 k8) 9 k9) 10 k10) 11 k11) 12 (if k12 = 0 then (1 : Int) else k12)) 13 (if k12 = 0 then k9 else k13)) 21 k21) eq_46 ?_
            refine JW.bipush dX3_line_67 rfl ?_
            refine JW.icmp_ne (tgt := 77) dX3_line_69 rfl (fun c_47 => ?_) (fun c_47 => ?_)
            · have K := K.1 c_47
              exact JW.pick [0, 1] rfl K
            · have K := K.2 c_47
              refine JW.aload_n dX3_line_72 rfl ?_
              refine JW.iconst dX3_line_73 rfl ?_
              refine JW.mcall (As := [vI 3]) dX3_line_74 vX3_fails rfl q1708 (ctX3_fails b (sS (sS (sS (sS (sS (sS (sS (sS (sA (sA (sA (sA s 6 f6) 7 f7) 8 f8) 9 f9) 7 k7) 8 k8) 9 k9) 10 k10) 11 k11) 12 (if k12 = 0 then (1 : Int) else k12)) 13 (if k12 = 0 then k9 else k13)) 21 k21) 3) (Nat.le_of_ble_eq_true rfl) rfl (Nat.le_of_ble_eq_true rfl) ?_
              rintro _ _ ⟨rfl, rfl⟩
              refine JW.steq (s2 := sS (sS (sS (sS (sS (sS (sS (sS (sA (sA (sA (sA s 6 f6) 7 f7) 8 f8) 9 f9) 7 k7) 8 k8) 9 k9) 10 k10) 11 k11) 12 (if (if k12 = 0 then (1 : Int) else k12) = 0 then (3 : Int) else (if k12 = 0 then (1 : Int) else k12))) 13 (if (if k12 = 0 then (1 : Int) else k12) = 0 then k9 else (if k12 = 0 then k9 else k13))) 21 k21) (by simp only [sA_A, sS_S, sA_S, sA_lt, sS_lt, Nat.reduceLT, id_eq] <;> rfl) ?_
              exact JW.pick [0, 1] rfl K
theorem bX3_line_77 {Q : Option AV → MS → Prop} (b : AH) (s : MS) (x1 : Int) (f6 : Int → Int) (f7 : Int → Int) (f8 : Int → Int) (f9 : Int → Int) (k7 : Int) (k8 : Int) (k9 : Int) (k10 : Int) (k11 : Int) (k12 : Int) (k13 : Int) (k21 : Int) (K : (k12 = 0 → (0 ≤ k7 ∧ k7 ≤ (s.1 6) ∧ (s.1 6) ≤ 800) ∧ ((x1 = 0 → (0 ≤ (5 : Int) ∧ (5 : Int) < 6) ∧ ((0 ≤ (2 : Int) ∧ (2 : Int) < 6) ∧ ((0 ≤ (enx (s.2 4) (s.1 6) k7) ∧ (enx (s.2 4) (s.1 6) k7) ≤ (s.1 6) ∧ (s.1 6) ≤ 800) ∧ ((∀ (k_10 : Int) (k_11 : Int) (k_12 : Int) (k_13 : Int) (k_14 : Int) (k_15 : Int) (k_16 : Int) (r_17 : Int), (numQ (s.2 4) (s.1 6) (0 : Int) (i32 ((f6 (24 + (2 : Int))) - 1)) (enx (s.2 4) (s.1 6) k7) (knd (s.2 4) (s.1 6) k7) (plc (s.2 4) (s.1 6) k7) (vlu (s.2 4) (s.1 6) k7) (wrd (s.2 4) (s.1 6) k7) k12 k13 k_10 k_11 k_12 k_13 k_14 k_15 k_16 r_17) → (0 ≤ (i32 (80 + (f6 (24 + (5 : Int))))) ∧ (i32 (80 + (f6 (24 + (5 : Int))))) < 100) ∧ (Q none (sS (sS (sS (sS (sS (sS (sS (sS (sA (sA (sA (sA s 6 (upI f6 29 (i32 ((f6 29) + 1)))) 7 f7) 8 f8) 9 (upI f9 (i32 (80 + (f6 (24 + (5 : Int))))) r_17)) 7 k_10) 8 k_11) 9 k_12) 10 k_13) 11 k_14) 12 k_15) 13 k_16) 21 k21))))))) ∧ (¬ x1 = 0 → (0 ≤ (4 : Int) ∧ (4 : Int) < 6) ∧ ((0 ≤ (enx (s.2 4) (s.1 6) k7) ∧ (enx (s.2 4) (s.1 6) k7) ≤ (s.1 6) ∧ (s.1 6) ≤ 800 ∧ ((if k12 = 0 ∧ (knd (s.2 4) (s.1 6) k7) = 1 then sortOf (wrd (s.2 4) (s.1 6) k7) else -1) = -1 ∨ (0 ≤ (i32 (4 * (i32 (24 + (f6 (24 + (4 : Int))))))) ∧ (i32 (4 * (i32 (24 + (f6 (24 + (4 : Int))))))) + 1 < 120)) ∧ (0 ≤ f6 24 ∧ f6 24 ≤ 100)) ∧ ((∀ (f_23 : Int → Int) (k_24 : Int) (k_25 : Int) (k_26 : Int) (k_27 : Int) (k_28 : Int) (k_29 : Int) (k_30 : Int), (wordQ (s.2 4) (s.1 6) (f6 24) (enx (s.2 4) (s.1 6) k7) (knd (s.2 4) (s.1 6) k7) (plc (s.2 4) (s.1 6) k7) (vlu (s.2 4) (s.1 6) k7) (wrd (s.2 4) (s.1 6) k7) k12 k13 f8 k_24 k_25 k_26 k_27 k_28 k_29 k_30 f_23 (i32 (4 * (i32 (24 + (f6 (24 + (4 : Int)))))))) → ((bI (k_29 = 0)) = 0 → ((bI (k_29 = 0)) = 0 → Q none (sS (sS (sS (sS (sS (sS (sS (sS (sA (sA (sA (sA s 6 (upI f6 28 (i32 ((f6 28) + 1)))) 7 f7) 8 f_23) 9 f9) 7 k_24) 8 k_25) 9 k_26) 10 k_27) 11 k_28) 12 k_29) 13 k_30) 21 k21)) ∧ (¬ (bI (k_29 = 0)) = 0 → (0 ≤ k_24 ∧ k_24 ≤ (s.1 6) ∧ (s.1 6) ≤ 800 ∧ ((if k_29 = 0 ∧ k_25 = 1 then sortOf k_28 else -1) = -1 ∨ (0 ≤ (i32 ((i32 (4 * (i32 (24 + (f6 (24 + (4 : Int))))))) + 2)) ∧ (i32 ((i32 (4 * (i32 (24 + (f6 (24 + (4 : Int))))))) + 2)) + 1 < 120)) ∧ (0 ≤ f6 24 ∧ f6 24 ≤ 100)) ∧ ((∀ (f_37 : Int → Int) (k_38 : Int) (k_39 : Int) (k_40 : Int) (k_41 : Int) (k_42 : Int) (k_43 : Int) (k_44 : Int), (wordQ (s.2 4) (s.1 6) (f6 24) k_24 k_25 k_26 k_27 k_28 k_29 k_30 f_23 k_38 k_39 k_40 k_41 k_42 k_43 k_44 f_37 (i32 ((i32 (4 * (i32 (24 + (f6 (24 + (4 : Int))))))) + 2))) → Q none (sS (sS (sS (sS (sS (sS (sS (sS (sA (sA (sA (sA s 6 (upI f6 28 (i32 ((f6 28) + 1)))) 7 f7) 8 f_37) 9 f9) 7 k_38) 8 k_39) 9 k_40) 10 k_41) 11 k_42) 12 k_43) 13 k_44) 21 k21))))) ∧ (¬ (bI (k_29 = 0)) = 0 → (0 ≤ k_24 ∧ k_24 ≤ (s.1 6) ∧ (s.1 6) ≤ 800) ∧ ((∀ (k_47 : Int) (k_48 : Int) (k_49 : Int) (k_50 : Int) (k_51 : Int) (k_52 : Int) (k_53 : Int), (needQ (s.2 4) (s.1 6) (4797 : Int) k_24 k_25 k_26 k_27 k_28 k_29 k_30 k_47 k_48 k_49 k_50 k_51 k_52 k_53) → ((bI (k_52 = 0)) = 0 → Q none (sS (sS (sS (sS (sS (sS (sS (sS (sA (sA (sA (sA s 6 (upI f6 28 (i32 ((f6 28) + 1)))) 7 f7) 8 f_23) 9 f9) 7 k_47) 8 k_48) 9 k_49) 10 k_50) 11 k_51) 12 k_52) 13 k_53) 21 k21)) ∧ (¬ (bI (k_52 = 0)) = 0 → (0 ≤ k_47 ∧ k_47 ≤ (s.1 6) ∧ (s.1 6) ≤ 800 ∧ ((if k_52 = 0 ∧ k_48 = 1 then sortOf k_51 else -1) = -1 ∨ (0 ≤ (i32 ((i32 (4 * (i32 (24 + (f6 (24 + (4 : Int))))))) + 2)) ∧ (i32 ((i32 (4 * (i32 (24 + (f6 (24 + (4 : Int))))))) + 2)) + 1 < 120)) ∧ (0 ≤ f6 24 ∧ f6 24 ≤ 100)) ∧ ((∀ (f_58 : Int → Int) (k_59 : Int) (k_60 : Int) (k_61 : Int) (k_62 : Int) (k_63 : Int) (k_64 : Int) (k_65 : Int), (wordQ (s.2 4) (s.1 6) (f6 24) k_47 k_48 k_49 k_50 k_51 k_52 k_53 f_23 k_59 k_60 k_61 k_62 k_63 k_64 k_65 f_58 (i32 ((i32 (4 * (i32 (24 + (f6 (24 + (4 : Int))))))) + 2))) → Q none (sS (sS (sS (sS (sS (sS (sS (sS (sA (sA (sA (sA s 6 (upI f6 28 (i32 ((f6 28) + 1)))) 7 f7) 8 f_58) 9 f9) 7 k_59) 8 k_60) 9 k_61) 10 k_62) 11 k_63) 12 k_64) 13 k_65) 21 k21))))))))))))) ∧ (¬ k12 = 0 → Q none (sS (sS (sS (sS (sS (sS (sS (sS (sA (sA (sA (sA s 6 f6) 7 f7) 8 f8) 9 f9) 7 k7) 8 k8) 9 k9) 10 k10) 11 k11) 12 k12) 13 k13) 21 k21))) : HX3_line_77 Q b s x1 f6 f7 f8 f9 k7 k8 k9 k10 k11 k12 k13 k21 := by
  refine JW.aload_n dX3_line_77 rfl ?_
  refine JW.mget (v := vI k12) dX3_line_78 fX3_129 rfl ?_
  refine JW.if_eq (tgt := 85) dX3_line_81 rfl (fun c_1 => ?_) (fun c_1 => ?_)
  · have K := K.1 c_1
    refine JW.aload_n dX3_line_85 rfl ?_
    obtain ⟨o_2, K⟩ := K
    refine JW.mcall (As := []) dX3_line_86 vX3_next rfl q1674 (ctX3_next b (sS (sS (sS (sS (sS (sS (sS (sS (sA (sA (sA (sA s 6 f6) 7 f7) 8 f8) 9 f9) 7 k7) 8 k8) 9 k9) 10 k10) 11 k11) 12 k12) 13 k13) 21 k21) o_2) (Nat.le_of_ble_eq_true rfl) rfl (Nat.le_of_ble_eq_true rfl) ?_
    rintro _ _ ⟨rfl, rfl⟩
    refine JW.steq (s2 := sS (sS (sS (sS (sS (sS (sS (sS (sA (sA (sA (sA s 6 f6) 7 f7) 8 f8) 9 f9) 7 (enx (s.2 4) (s.1 6) k7)) 8 (knd (s.2 4) (s.1 6) k7)) 9 (plc (s.2 4) (s.1 6) k7)) 10 (vlu (s.2 4) (s.1 6) k7)) 11 (wrd (s.2 4) (s.1 6) k7)) 12 k12) 13 k13) 21 k21) (by simp only [sA_A, sS_S, sA_S, sA_lt, sS_lt, Nat.reduceLT, id_eq] <;> rfl) ?_
    refine JW.iload_n dX3_line_89 rfl ?_
    refine JW.if_eq (tgt := 159) dX3_line_90 rfl (fun c_4 => ?_) (fun c_4 => ?_)
    · have K := K.1 c_4
      refine JW.aload_n dX3_line_159 rfl ?_
      refine JW.mget (v := vR 361) dX3_line_160 fX3_43 rfl ?_
      refine JW.bipush dX3_line_163 rfl ?_
      refine JW.aload_n dX3_line_165 rfl ?_
      refine JW.iconst dX3_line_166 rfl ?_
      obtain ⟨o_5, K⟩ := K
      refine JW.mcall (As := [vI 5]) dX3_line_167 vX3_many rfl q1723 (ctX3_many b (sS (sS (sS (sS (sS (sS (sS (sS (sA (sA (sA (sA s 6 f6) 7 f7) 8 f8) 9 f9) 7 (enx (s.2 4) (s.1 6) k7)) 8 (knd (s.2 4) (s.1 6) k7)) 9 (plc (s.2 4) (s.1 6) k7)) 10 (vlu (s.2 4) (s.1 6) k7)) 11 (wrd (s.2 4) (s.1 6) k7)) 12 k12) 13 k13) 21 k21) 5 o_5) (Nat.le_of_ble_eq_true rfl) rfl (Nat.le_of_ble_eq_true rfl) ?_
      rintro _ _ ⟨rfl, eq_6⟩
      refine JW.steq (s2 := sS (sS (sS (sS (sS (sS (sS (sS (sA (sA (sA (sA s 6 f6) 7 f7) 8 f8) 9 f9) 7 (enx (s.2 4) (s.1 6) k7)) 8 (knd (s.2 4) (s.1 6) k7)) 9 (plc (s.2 4) (s.1 6) k7)) 10 (vlu (s.2 4) (s.1 6) k7)) 11 (wrd (s.2 4) (s.1 6) k7)) 12 k12) 13 k13) 21 k21) eq_6 ?_
      refine JW.iadd dX3_line_170 ?_
      refine JW.aload_n dX3_line_171 rfl ?_
      refine JW.iconst dX3_line_172 rfl ?_
      refine JW.aload_n dX3_line_173 rfl ?_
      refine JW.iconst dX3_line_174 rfl ?_
      obtain ⟨o_7, K⟩ := K
      refine JW.mcall (As := [vI 2]) dX3_line_175 vX3_many rfl q1723 (ctX3_many b (sS (sS (sS (sS (sS (sS (sS (sS (sA (sA (sA (sA s 6 f6) 7 f7) 8 f8) 9 f9) 7 (enx (s.2 4) (s.1 6) k7)) 8 (knd (s.2 4) (s.1 6) k7)) 9 (plc (s.2 4) (s.1 6) k7)) 10 (vlu (s.2 4) (s.1 6) k7)) 11 (wrd (s.2 4) (s.1 6) k7)) 12 k12) 13 k13) 21 k21) 2 o_7) (Nat.le_of_ble_eq_true rfl) rfl (Nat.le_of_ble_eq_true rfl) ?_
      rintro _ _ ⟨rfl, eq_8⟩
      refine JW.steq (s2 := sS (sS (sS (sS (sS (sS (sS (sS (sA (sA (sA (sA s 6 f6) 7 f7) 8 f8) 9 f9) 7 (enx (s.2 4) (s.1 6) k7)) 8 (knd (s.2 4) (s.1 6) k7)) 9 (plc (s.2 4) (s.1 6) k7)) 10 (vlu (s.2 4) (s.1 6) k7)) 11 (wrd (s.2 4) (s.1 6) k7)) 12 k12) 13 k13) 21 k21) eq_8 ?_
      refine JW.iconst dX3_line_178 rfl ?_
      refine JW.isub dX3_line_179 ?_
      obtain ⟨o_9, K⟩ := K
      refine JW.mcall (As := [vI 0, vI (i32 ((f6 (24 + (2 : Int))) - 1))]) dX3_line_180 vX3_number_2 rfl q1717 (ctX3_number_2 b (sS (sS (sS (sS (sS (sS (sS (sS (sA (sA (sA (sA s 6 f6) 7 f7) 8 f8) 9 f9) 7 (enx (s.2 4) (s.1 6) k7)) 8 (knd (s.2 4) (s.1 6) k7)) 9 (plc (s.2 4) (s.1 6) k7)) 10 (vlu (s.2 4) (s.1 6) k7)) 11 (wrd (s.2 4) (s.1 6) k7)) 12 k12) 13 k13) 21 k21) 0 (i32 ((f6 (24 + (2 : Int))) - 1)) o_9) (Nat.le_of_ble_eq_true rfl) rfl (Nat.le_of_ble_eq_true rfl) ?_
      rintro _ _ ⟨k_10, k_11, k_12, k_13, k_14, k_15, k_16, r_17, rfl, rfl, q_18⟩
      refine JW.steq (s2 := sS (sS (sS (sS (sS (sS (sS (sS (sA (sA (sA (sA s 6 f6) 7 f7) 8 f8) 9 f9) 7 k_10) 8 k_11) 9 k_12) 10 k_13) 11 k_14) 12 k_15) 13 k_16) 21 k21) (by simp only [sA_A, sS_S, sA_S, sA_lt, sS_lt, Nat.reduceLT, id_eq] <;> rfl) ?_
      replace K := K k_10 k_11 k_12 k_13 k_14 k_15 k_16 r_17 q_18
      obtain ⟨o_19, K⟩ := K
      refine JW.mast 9 (f := f9) dX3_line_183 (Nat.le_of_ble_eq_true rfl) rfl o_19.1 o_19.2 rfl ?_
      refine JW.steq (s2 := sS (sS (sS (sS (sS (sS (sS (sS (sA (sA (sA (sA s 6 f6) 7 f7) 8 f8) 9 (upI f9 (i32 (80 + (f6 (24 + (5 : Int))))) r_17)) 7 k_10) 8 k_11) 9 k_12) 10 k_13) 11 k_14) 12 k_15) 13 k_16) 21 k21) (by simp only [sA_A, sS_S, sA_S, sA_lt, sS_lt, Nat.reduceLT, id_eq] <;> rfl) ?_
      refine JW.aload_n dX3_line_184 rfl ?_
      refine JW.mget (v := vR 358) dX3_line_185 fX3_34 rfl ?_
      refine JW.bipush dX3_line_188 rfl ?_
      refine JW.dup2_11 dX3_line_190 rfl rfl ?_
      refine JW.mald 6 (x := (f6 29)) dX3_line_191 (Nat.le_of_ble_eq_true rfl) rfl (by decide) (by decide) rfl ?_
      refine JW.iconst dX3_line_192 rfl ?_
      refine JW.iadd dX3_line_193 ?_
      refine JW.mast 6 (f := f6) dX3_line_194 (Nat.le_of_ble_eq_true rfl) rfl (by decide) (by decide) rfl ?_
      refine JW.steq (s2 := sS (sS (sS (sS (sS (sS (sS (sS (sA (sA (sA (sA s 6 (upI f6 29 (i32 ((f6 29) + 1)))) 7 f7) 8 f8) 9 (upI f9 (i32 (80 + (f6 (24 + (5 : Int))))) r_17)) 7 k_10) 8 k_11) 9 k_12) 10 k_13) 11 k_14) 12 k_15) 13 k_16) 21 k21) (by simp only [sA_A, sS_S, sA_S, sA_lt, sS_lt, Nat.reduceLT, id_eq] <;> rfl) ?_
      exact JW.vreturn dX3_line_195 rfl ⟨_, rfl, K⟩
    · have K := K.2 c_4
      refine JW.iconst dX3_line_93 rfl ?_
      refine JW.bipush dX3_line_94 rfl ?_
      refine JW.aload_n dX3_line_96 rfl ?_
      refine JW.iconst dX3_line_97 rfl ?_
      obtain ⟨o_20, K⟩ := K
      refine JW.mcall (As := [vI 4]) dX3_line_98 vX3_many rfl q1723 (ctX3_many b (sS (sS (sS (sS (sS (sS (sS (sS (sA (sA (sA (sA s 6 f6) 7 f7) 8 f8) 9 f9) 7 (enx (s.2 4) (s.1 6) k7)) 8 (knd (s.2 4) (s.1 6) k7)) 9 (plc (s.2 4) (s.1 6) k7)) 10 (vlu (s.2 4) (s.1 6) k7)) 11 (wrd (s.2 4) (s.1 6) k7)) 12 k12) 13 k13) 21 k21) 4 o_20) (Nat.le_of_ble_eq_true rfl) rfl (Nat.le_of_ble_eq_true rfl) ?_
      rintro _ _ ⟨rfl, eq_21⟩
      refine JW.steq (s2 := sS (sS (sS (sS (sS (sS (sS (sS (sA (sA (sA (sA s 6 f6) 7 f7) 8 f8) 9 f9) 7 (enx (s.2 4) (s.1 6) k7)) 8 (knd (s.2 4) (s.1 6) k7)) 9 (plc (s.2 4) (s.1 6) k7)) 10 (vlu (s.2 4) (s.1 6) k7)) 11 (wrd (s.2 4) (s.1 6) k7)) 12 k12) 13 k13) 21 k21) eq_21 ?_
      refine JW.iadd dX3_line_101 ?_
      refine JW.imul dX3_line_102 ?_
      refine JW.istore_n (ls' := [(0, vR 351), (1, vI x1), (3, vI (i32 (4 * (i32 (24 + (f6 (24 + (4 : Int))))))))]) dX3_line_103 (Nat.le_of_ble_eq_true rfl) rfl ?_
      refine JW.aload_n dX3_line_104 rfl ?_
      refine JW.aload_n dX3_line_105 rfl ?_
      refine JW.mget (v := vR 360) dX3_line_106 fX3_40 rfl ?_
      refine JW.iload_n dX3_line_109 rfl ?_
      obtain ⟨o_22, K⟩ := K
      refine JW.mcall (As := [vR 360, vI (i32 (4 * (i32 (24 + (f6 (24 + (4 : Int)))))))]) dX3_line_110 vX3_wordTo rfl q1760 (ctX3_wordTo_8 b (sS (sS (sS (sS (sS (sS (sS (sS (sA (sA (sA (sA s 6 f6) 7 f7) 8 f8) 9 f9) 7 (enx (s.2 4) (s.1 6) k7)) 8 (knd (s.2 4) (s.1 6) k7)) 9 (plc (s.2 4) (s.1 6) k7)) 10 (vlu (s.2 4) (s.1 6) k7)) 11 (wrd (s.2 4) (s.1 6) k7)) 12 k12) 13 k13) 21 k21) (i32 (4 * (i32 (24 + (f6 (24 + (4 : Int))))))) o_22) (Nat.le_of_ble_eq_true rfl) rfl (Nat.le_of_ble_eq_true rfl) ?_
      rintro _ _ ⟨f_23, k_24, k_25, k_26, k_27, k_28, k_29, k_30, rfl, rfl, q_31⟩
      refine JW.steq (s2 := sS (sS (sS (sS (sS (sS (sS (sS (sA (sA (sA (sA s 6 f6) 7 f7) 8 f_23) 9 f9) 7 k_24) 8 k_25) 9 k_26) 10 k_27) 11 k_28) 12 k_29) 13 k_30) 21 k21) (by simp only [sA_A, sS_S, sA_S, sA_lt, sS_lt, Nat.reduceLT, id_eq] <;> rfl) ?_
      replace K := K f_23 k_24 k_25 k_26 k_27 k_28 k_29 k_30 q_31
      refine JW.aload_n dX3_line_113 rfl ?_
      refine JW.mcall (As := []) dX3_line_114 vX3_isGood rfl q1687 (ctX3_isGood b (sS (sS (sS (sS (sS (sS (sS (sS (sA (sA (sA (sA s 6 f6) 7 f7) 8 f_23) 9 f9) 7 k_24) 8 k_25) 9 k_26) 10 k_27) 11 k_28) 12 k_29) 13 k_30) 21 k21)) (Nat.le_of_ble_eq_true rfl) rfl (Nat.le_of_ble_eq_true rfl) ?_
      rintro _ _ ⟨rfl, eq_32⟩
      refine JW.steq (s2 := sS (sS (sS (sS (sS (sS (sS (sS (sA (sA (sA (sA s 6 f6) 7 f7) 8 f_23) 9 f9) 7 k_24) 8 k_25) 9 k_26) 10 k_27) 11 k_28) 12 k_29) 13 k_30) 21 k21) eq_32 ?_
      refine JW.if_eq (tgt := 127) dX3_line_117 rfl (fun c_33 => ?_) (fun c_33 => ?_)
      · have K := K.1 c_33
        refine JW.aload_n dX3_line_127 rfl ?_
        refine JW.mcall (As := []) dX3_line_128 vX3_isGood rfl q1687 (ctX3_isGood b (sS (sS (sS (sS (sS (sS (sS (sS (sA (sA (sA (sA s 6 f6) 7 f7) 8 f_23) 9 f9) 7 k_24) 8 k_25) 9 k_26) 10 k_27) 11 k_28) 12 k_29) 13 k_30) 21 k21)) (Nat.le_of_ble_eq_true rfl) rfl (Nat.le_of_ble_eq_true rfl) ?_
        rintro _ _ ⟨rfl, eq_34⟩
        refine JW.steq (s2 := sS (sS (sS (sS (sS (sS (sS (sS (sA (sA (sA (sA s 6 f6) 7 f7) 8 f_23) 9 f9) 7 k_24) 8 k_25) 9 k_26) 10 k_27) 11 k_28) 12 k_29) 13 k_30) 21 k21) eq_34 ?_
        refine JW.if_eq (tgt := 145) dX3_line_131 rfl (fun c_35 => ?_) (fun c_35 => ?_)
        · have K := K.1 c_35
          refine JW.aload_n dX3_line_145 rfl ?_
          refine JW.mget (v := vR 358) dX3_line_146 fX3_34 rfl ?_
          refine JW.bipush dX3_line_149 rfl ?_
          refine JW.dup2_11 dX3_line_151 rfl rfl ?_
          refine JW.mald 6 (x := (f6 28)) dX3_line_152 (Nat.le_of_ble_eq_true rfl) rfl (by decide) (by decide) rfl ?_
          refine JW.iconst dX3_line_153 rfl ?_
          refine JW.iadd dX3_line_154 ?_
          refine JW.mast 6 (f := f6) dX3_line_155 (Nat.le_of_ble_eq_true rfl) rfl (by decide) (by decide) rfl ?_
          refine JW.steq (s2 := sS (sS (sS (sS (sS (sS (sS (sS (sA (sA (sA (sA s 6 (upI f6 28 (i32 ((f6 28) + 1)))) 7 f7) 8 f_23) 9 f9) 7 k_24) 8 k_25) 9 k_26) 10 k_27) 11 k_28) 12 k_29) 13 k_30) 21 k21) (by simp only [sA_A, sS_S, sA_S, sA_lt, sS_lt, Nat.reduceLT, id_eq] <;> rfl) ?_
          refine JW.goto (tgt := 195) dX3_line_156 rfl ?_
          exact JW.vreturn dX3_line_195 rfl ⟨_, rfl, K⟩
        · have K := K.2 c_35
          refine JW.aload_n dX3_line_134 rfl ?_
          refine JW.aload_n dX3_line_135 rfl ?_
          refine JW.mget (v := vR 360) dX3_line_136 fX3_40 rfl ?_
          refine JW.iload_n dX3_line_139 rfl ?_
          refine JW.iconst dX3_line_140 rfl ?_
          refine JW.iadd dX3_line_141 ?_
          obtain ⟨o_36, K⟩ := K
          refine JW.mcall (As := [vR 360, vI (i32 ((i32 (4 * (i32 (24 + (f6 (24 + (4 : Int))))))) + 2))]) dX3_line_142 vX3_wordTo rfl q1760 (ctX3_wordTo_8 b (sS (sS (sS (sS (sS (sS (sS (sS (sA (sA (sA (sA s 6 f6) 7 f7) 8 f_23) 9 f9) 7 k_24) 8 k_25) 9 k_26) 10 k_27) 11 k_28) 12 k_29) 13 k_30) 21 k21) (i32 ((i32 (4 * (i32 (24 + (f6 (24 + (4 : Int))))))) + 2)) o_36) (Nat.le_of_ble_eq_true rfl) rfl (Nat.le_of_ble_eq_true rfl) ?_
          rintro _ _ ⟨f_37, k_38, k_39, k_40, k_41, k_42, k_43, k_44, rfl, rfl, q_45⟩
          refine JW.steq (s2 := sS (sS (sS (sS (sS (sS (sS (sS (sA (sA (sA (sA s 6 f6) 7 f7) 8 f_37) 9 f9) 7 k_38) 8 k_39) 9 k_40) 10 k_41) 11 k_42) 12 k_43) 13 k_44) 21 k21) (by simp only [sA_A, sS_S, sA_S, sA_lt, sS_lt, Nat.reduceLT, id_eq] <;> rfl) ?_
          replace K := K f_37 k_38 k_39 k_40 k_41 k_42 k_43 k_44 q_45
          refine JW.aload_n dX3_line_145 rfl ?_
          refine JW.mget (v := vR 358) dX3_line_146 fX3_34 rfl ?_
          refine JW.bipush dX3_line_149 rfl ?_
          refine JW.dup2_11 dX3_line_151 rfl rfl ?_
          refine JW.mald 6 (x := (f6 28)) dX3_line_152 (Nat.le_of_ble_eq_true rfl) rfl (by decide) (by decide) rfl ?_
          refine JW.iconst dX3_line_153 rfl ?_
          refine JW.iadd dX3_line_154 ?_
          refine JW.mast 6 (f := f6) dX3_line_155 (Nat.le_of_ble_eq_true rfl) rfl (by decide) (by decide) rfl ?_
          refine JW.steq (s2 := sS (sS (sS (sS (sS (sS (sS (sS (sA (sA (sA (sA s 6 (upI f6 28 (i32 ((f6 28) + 1)))) 7 f7) 8 f_37) 9 f9) 7 k_38) 8 k_39) 9 k_40) 10 k_41) 11 k_42) 12 k_43) 13 k_44) 21 k21) (by simp only [sA_A, sS_S, sA_S, sA_lt, sS_lt, Nat.reduceLT, id_eq] <;> rfl) ?_
          refine JW.goto (tgt := 195) dX3_line_156 rfl ?_
          exact JW.vreturn dX3_line_195 rfl ⟨_, rfl, K⟩
      · have K := K.2 c_33
        refine JW.aload_n dX3_line_120 rfl ?_
        refine JW.ldc2 (x := 4797) dX3_line_121 q1764 rfl ?_
        obtain ⟨o_46, K⟩ := K
        refine JW.mcall (As := [vL 4797]) dX3_line_124 vX3_asks rfl q1696 (ctX3_asks b (sS (sS (sS (sS (sS (sS (sS (sS (sA (sA (sA (sA s 6 f6) 7 f7) 8 f_23) 9 f9) 7 k_24) 8 k_25) 9 k_26) 10 k_27) 11 k_28) 12 k_29) 13 k_30) 21 k21) 4797 o_46) (Nat.le_of_ble_eq_true rfl) rfl (Nat.le_of_ble_eq_true rfl) ?_
        rintro _ _ ⟨k_47, k_48, k_49, k_50, k_51, k_52, k_53, rfl, rfl, q_54⟩
        refine JW.steq (s2 := sS (sS (sS (sS (sS (sS (sS (sS (sA (sA (sA (sA s 6 f6) 7 f7) 8 f_23) 9 f9) 7 k_47) 8 k_48) 9 k_49) 10 k_50) 11 k_51) 12 k_52) 13 k_53) 21 k21) (by simp only [sA_A, sS_S, sA_S, sA_lt, sS_lt, Nat.reduceLT, id_eq] <;> rfl) ?_
        replace K := K k_47 k_48 k_49 k_50 k_51 k_52 k_53 q_54
        refine JW.aload_n dX3_line_127 rfl ?_
        refine JW.mcall (As := []) dX3_line_128 vX3_isGood rfl q1687 (ctX3_isGood b (sS (sS (sS (sS (sS (sS (sS (sS (sA (sA (sA (sA s 6 f6) 7 f7) 8 f_23) 9 f9) 7 k_47) 8 k_48) 9 k_49) 10 k_50) 11 k_51) 12 k_52) 13 k_53) 21 k21)) (Nat.le_of_ble_eq_true rfl) rfl (Nat.le_of_ble_eq_true rfl) ?_
        rintro _ _ ⟨rfl, eq_55⟩
        refine JW.steq (s2 := sS (sS (sS (sS (sS (sS (sS (sS (sA (sA (sA (sA s 6 f6) 7 f7) 8 f_23) 9 f9) 7 k_47) 8 k_48) 9 k_49) 10 k_50) 11 k_51) 12 k_52) 13 k_53) 21 k21) eq_55 ?_
        refine JW.if_eq (tgt := 145) dX3_line_131 rfl (fun c_56 => ?_) (fun c_56 => ?_)
        · have K := K.1 c_56
          refine JW.aload_n dX3_line_145 rfl ?_
          refine JW.mget (v := vR 358) dX3_line_146 fX3_34 rfl ?_
          refine JW.bipush dX3_line_149 rfl ?_
          refine JW.dup2_11 dX3_line_151 rfl rfl ?_
          refine JW.mald 6 (x := (f6 28)) dX3_line_152 (Nat.le_of_ble_eq_true rfl) rfl (by decide) (by decide) rfl ?_
          refine JW.iconst dX3_line_153 rfl ?_
          refine JW.iadd dX3_line_154 ?_
          refine JW.mast 6 (f := f6) dX3_line_155 (Nat.le_of_ble_eq_true rfl) rfl (by decide) (by decide) rfl ?_
          refine JW.steq (s2 := sS (sS (sS (sS (sS (sS (sS (sS (sA (sA (sA (sA s 6 (upI f6 28 (i32 ((f6 28) + 1)))) 7 f7) 8 f_23) 9 f9) 7 k_47) 8 k_48) 9 k_49) 10 k_50) 11 k_51) 12 k_52) 13 k_53) 21 k21) (by simp only [sA_A, sS_S, sA_S, sA_lt, sS_lt, Nat.reduceLT, id_eq] <;> rfl) ?_
          refine JW.goto (tgt := 195) dX3_line_156 rfl ?_
          exact JW.vreturn dX3_line_195 rfl ⟨_, rfl, K⟩
        · have K := K.2 c_56
          refine JW.aload_n dX3_line_134 rfl ?_
          refine JW.aload_n dX3_line_135 rfl ?_
          refine JW.mget (v := vR 360) dX3_line_136 fX3_40 rfl ?_
          refine JW.iload_n dX3_line_139 rfl ?_
          refine JW.iconst dX3_line_140 rfl ?_
          refine JW.iadd dX3_line_141 ?_
          obtain ⟨o_57, K⟩ := K
          refine JW.mcall (As := [vR 360, vI (i32 ((i32 (4 * (i32 (24 + (f6 (24 + (4 : Int))))))) + 2))]) dX3_line_142 vX3_wordTo rfl q1760 (ctX3_wordTo_8 b (sS (sS (sS (sS (sS (sS (sS (sS (sA (sA (sA (sA s 6 f6) 7 f7) 8 f_23) 9 f9) 7 k_47) 8 k_48) 9 k_49) 10 k_50) 11 k_51) 12 k_52) 13 k_53) 21 k21) (i32 ((i32 (4 * (i32 (24 + (f6 (24 + (4 : Int))))))) + 2)) o_57) (Nat.le_of_ble_eq_true rfl) rfl (Nat.le_of_ble_eq_true rfl) ?_
          rintro _ _ ⟨f_58, k_59, k_60, k_61, k_62, k_63, k_64, k_65, rfl, rfl, q_66⟩
          refine JW.steq (s2 := sS (sS (sS (sS (sS (sS (sS (sS (sA (sA (sA (sA s 6 f6) 7 f7) 8 f_58) 9 f9) 7 k_59) 8 k_60) 9 k_61) 10 k_62) 11 k_63) 12 k_64) 13 k_65) 21 k21) (by simp only [sA_A, sS_S, sA_S, sA_lt, sS_lt, Nat.reduceLT, id_eq] <;> rfl) ?_
          replace K := K f_58 k_59 k_60 k_61 k_62 k_63 k_64 k_65 q_66
          refine JW.aload_n dX3_line_145 rfl ?_
          refine JW.mget (v := vR 358) dX3_line_146 fX3_34 rfl ?_
          refine JW.bipush dX3_line_149 rfl ?_
          refine JW.dup2_11 dX3_line_151 rfl rfl ?_
          refine JW.mald 6 (x := (f6 28)) dX3_line_152 (Nat.le_of_ble_eq_true rfl) rfl (by decide) (by decide) rfl ?_
          refine JW.iconst dX3_line_153 rfl ?_
          refine JW.iadd dX3_line_154 ?_
          refine JW.mast 6 (f := f6) dX3_line_155 (Nat.le_of_ble_eq_true rfl) rfl (by decide) (by decide) rfl ?_
          refine JW.steq (s2 := sS (sS (sS (sS (sS (sS (sS (sS (sA (sA (sA (sA s 6 (upI f6 28 (i32 ((f6 28) + 1)))) 7 f7) 8 f_58) 9 f9) 7 k_59) 8 k_60) 9 k_61) 10 k_62) 11 k_63) 12 k_64) 13 k_65) 21 k21) (by simp only [sA_A, sS_S, sA_S, sA_lt, sS_lt, Nat.reduceLT, id_eq] <;> rfl) ?_
          refine JW.goto (tgt := 195) dX3_line_156 rfl ?_
          exact JW.vreturn dX3_line_195 rfl ⟨_, rfl, K⟩
  · have K := K.2 c_1
    exact JW.vreturn dX3_line_84 rfl ⟨_, rfl, K⟩
def QX3_line (s : MS) : Option AV → MS → Prop := fun v s' => ∃ (f6 : Int → Int) (f7 : Int → Int) (f8 : Int → Int) (f9 : Int → Int) (k7 : Int) (k8 : Int) (k9 : Int) (k10 : Int) (k11 : Int) (k12 : Int) (k13 : Int) (k21 : Int), v = none ∧ s' = sS (sS (sS (sS (sS (sS (sS (sS (sA (sA (sA (sA s 6 f6) 7 f7) 8 f8) 9 f9) 7 k7) 8 k8) 9 k9) 10 k10) 11 k11) 12 k12) 13 k13) 21 k21 ∧ (lnQ (s.2 4) (s.1 6) (lineP (s.2 4) (s.1 6) (rep (s.2 6) (s.2 7) (s.2 8) (s.2 9) (s.1 21))) (s.1 7) (s.1 8) (s.1 9) (s.1 10) (s.1 11) k7 k8 k9 k10 k11 k12 k13 (rep f6 f7 f8 f9 k21) ∧ (∀ z, z < 24 → f6 z = (s.2 6) z) ∧ (∀ z, z < 96 → f7 z = (s.2 7) z) ∧ (∀ z, z < 96 → f8 z = (s.2 8) z) ∧ (∀ z, z < 80 → f9 z = (s.2 9) z))
theorem vX3_line_1 (s : MS) (hp : 0 ≤ (s.1 7) ∧ (s.1 7) ≤ (s.1 6) ∧ (s.1 6) ≤ 800 ∧ (s.1 12) = 0 ∧ (0 ≤ (s.2 6) 24 ∧ (s.2 6) 24 ≤ 100) ∧ ((s.1 21) = 0 → (s.2 6) 27 = 0) ∧ (0 ≤ (s.2 6) 28 ∧ (s.2 6) 28 ≤ 6) ∧ (0 ≤ (s.2 6) 29 ∧ (s.2 6) 29 ≤ 20) ∧ (0 ≤ (s.2 6) 26 ∧ (s.2 6) 26 ≤ 200000)) (x1 : Int) (x2 : Int) (f6 : Int → Int) (f7 : Int → Int) (f8 : Int → Int) (f9 : Int → Int) (k7 : Int) (k8 : Int) (k9 : Int) (k10 : Int) (k11 : Int) (k12 : Int) (k13 : Int) (k21 : Int) (hI : (k7 = s.1 7 ∧ k8 = s.1 8 ∧ k9 = s.1 9 ∧ k10 = s.1 10 ∧ k11 = s.1 11) ∧ (f6 = s.2 6 ∧ f7 = s.2 7 ∧ f8 = s.2 8 ∧ f9 = s.2 9 ∧ k21 = s.1 21) ∧ (k12 = 0 ∧ k13 = s.1 13) ∧ (x1 = bI (s.1 8 = 1 ∧ s.1 11 = 382984) ∧ x2 = bI (s.1 8 = 1 ∧ s.1 11 = 212302449)) ∧ ¬ (s.1 8 = 1 ∧ s.1 11 = 2427955)) (c_1 : ¬ x1 = 0) (c_2 : x1 = 0) (c_3 : x2 = 0) : (k7 = s.1 7 ∧ k8 = s.1 8 ∧ k9 = s.1 9 ∧ k10 = s.1 10 ∧ k11 = s.1 11) ∧ (f6 = s.2 6 ∧ f7 = s.2 7 ∧ f8 = s.2 8 ∧ f9 = s.2 9 ∧ k21 = s.1 21) ∧ lnG (s.1 8) (s.1 11) (s.2 6 28) (s.2 6 29) k12 k13 (s.1 13) (s.1 9) x1 := by
  obtain ⟨p0, p1, p2, p3, p4, p5, p6, p7, p8⟩ := hp
  (try simp only [Int.add_zero, Int.reduceAdd, bI_0, bI_n, Classical.not_not, p3, true_and] at *)
  (try (have h2 := hI; clear hI; obtain ⟨⟨a1, a2, a3, a4, a5⟩, ⟨b1, b2, b3, b4, b5⟩, hJ⟩ := h2; subst a1 a2 a3 a4 a5 b1 b2 b3 b4 b5))
  (try (have h4 := hJ; obtain ⟨⟨d1, d2⟩, ⟨d3, d4⟩, hd⟩ := h4; clear hJ; subst d1 d2))
  (try simp only [Int.reduceEq, ↓reduceIte] at *)
  (try (have h3 := hJ; clear hJ; obtain ⟨hd, hg⟩ := h3))
  (try have g := hg.resolve_right (fun h => h.1 (by assumption)))
  (try have g := hg.resolve_left (fun h => absurd h.1 (by assumption)))
  (try (have c0 : k12 = 0 := c_1; subst c0))
  (try (have y := g.2.2.resolve_left (fun h => by omega); clear g hg; try clear o_22; try clear o_36; try clear o_57))
  (try (have y := g.2.2.resolve_right (fun h => by omega); clear g hg; try clear o_22; try clear o_36; try clear o_57))
  (try have ex := enx_b (t := s.2 4) p1)
  (try have q181 := q_18.1.1)
  (try have q311 := q_31.1.1)
  (try have q541 := q_54.1)
  (try have q661 := q_66.1.1)
  (try simp (disch := omega) only [i32_id] at *)
  (try unfold lex3)
  (try simp only [bI_0, bI_n, Classical.not_not] at *)
  (try simp (disch := omega) only [i32_id] at *)
  first | done | omega | ((repeat' (with_reducible apply And.intro)) <;> first | (show lnQ _ _ _ _ _ _ _ _ _ _ _ _ _ _ _ _; have hx : x1 = 0 := c_4; exact lnQ_n y.2.1 y.2.2 rfl q_18 (by rw [rep_h (i := 5) (by decide), rep_t (i := s.2 6 29) rfl]; rfl)) | (show lnQ _ _ _ _ _ _ _ _ _ _ _ _ _ _ _ _; have hx : ¬ x1 = 0 := c_4; exact lnQ_s1 y.2.1 y.2.2 q_31 (by assumption)) | (show lnQ _ _ _ _ _ _ _ _ _ _ _ _ _ _ _ _; have hx : ¬ x1 = 0 := c_4; exact lnQ_s2 y.2.1 y.2.2 q_31 (by assumption) q_54 (by assumption)) | (show lnQ _ _ _ _ _ _ _ _ _ _ _ _ _ _ _ _; have hx : ¬ x1 = 0 := c_4; exact lnQ_s3 y.2.1 y.2.2 q_31 (by assumption) q_54 (by assumption) q_66 (fun w v w2 v2 hx => by rw [rep_h (i := 4) (by decide), hx, rep_s (i := 4 * s.2 6 28 + 3) (by omega), rep_s (i := 4 * s.2 6 28 + 2) (by omega), rep_s (i := 4 * s.2 6 28 + 1) (by omega), rep_s (i := 4 * s.2 6 28) (by omega)]; rfl)) | (show lnQ _ _ _ _ _ _ _ _ _ _ _ _ _ _ _ _; exact lnQ_bad ⟨by omega, by omega⟩ hd g.2.2 g.2.1) | (exact lnG_a hd d3 (by assumption) (by assumption)) | (exact lnG_b hd d3 (by assumption) (by assumption)) | (exact lnG_c hd d4 (by assumption) (by assumption)) | (exact lnG_d hd d4 (by assumption) (by assumption) (by assumption)) | (exact lnG_e hd d3 d4 (by assumption) (by assumption)) | (exact lnG_x d3 d4 (by assumption) (by assumption)) | assumption | rfl | omega | (show lnQ _ _ _ _ _ _ _ _ _ _ _ _ _ _ _ _; exact lnQ_do q_16.1 (by omega) (by omega)) | (intro z hz; exact q_16.2.1 z (by omega)) | (exact q_16.2.2.1) | (intro z hz; rw [upI_n _ _ (by omega)]) | (intro z hz; rfl) | (intro z hz; rw [q_66.2.2.1 z (by omega) (by omega), q_31.2.2.1 z (by omega) (by omega)]) | (intro z hz; exact q_31.2.2.1 z (by omega) (by omega)) | grind [upI])
theorem vX3_line_2 (s : MS) (hp : 0 ≤ (s.1 7) ∧ (s.1 7) ≤ (s.1 6) ∧ (s.1 6) ≤ 800 ∧ (s.1 12) = 0 ∧ (0 ≤ (s.2 6) 24 ∧ (s.2 6) 24 ≤ 100) ∧ ((s.1 21) = 0 → (s.2 6) 27 = 0) ∧ (0 ≤ (s.2 6) 28 ∧ (s.2 6) 28 ≤ 6) ∧ (0 ≤ (s.2 6) 29 ∧ (s.2 6) 29 ≤ 20) ∧ (0 ≤ (s.2 6) 26 ∧ (s.2 6) 26 ≤ 200000)) (x1 : Int) (x2 : Int) (f6 : Int → Int) (f7 : Int → Int) (f8 : Int → Int) (f9 : Int → Int) (k7 : Int) (k8 : Int) (k9 : Int) (k10 : Int) (k11 : Int) (k12 : Int) (k13 : Int) (k21 : Int) (hI : (k7 = s.1 7 ∧ k8 = s.1 8 ∧ k9 = s.1 9 ∧ k10 = s.1 10 ∧ k11 = s.1 11) ∧ (f6 = s.2 6 ∧ f7 = s.2 7 ∧ f8 = s.2 8 ∧ f9 = s.2 9 ∧ k21 = s.1 21) ∧ (k12 = 0 ∧ k13 = s.1 13) ∧ (x1 = bI (s.1 8 = 1 ∧ s.1 11 = 382984) ∧ x2 = bI (s.1 8 = 1 ∧ s.1 11 = 212302449)) ∧ ¬ (s.1 8 = 1 ∧ s.1 11 = 2427955)) (c_1 : ¬ x1 = 0) (c_2 : x1 = 0) (c_3 : x2 = 0) : lex3 0 0 0 0 0 1 := by
  obtain ⟨p0, p1, p2, p3, p4, p5, p6, p7, p8⟩ := hp
  (try simp only [Int.add_zero, Int.reduceAdd, bI_0, bI_n, Classical.not_not, p3, true_and] at *)
  (try (have h2 := hI; clear hI; obtain ⟨⟨a1, a2, a3, a4, a5⟩, ⟨b1, b2, b3, b4, b5⟩, hJ⟩ := h2; subst a1 a2 a3 a4 a5 b1 b2 b3 b4 b5))
  (try (have h4 := hJ; obtain ⟨⟨d1, d2⟩, ⟨d3, d4⟩, hd⟩ := h4; clear hJ; subst d1 d2))
  (try simp only [Int.reduceEq, ↓reduceIte] at *)
  (try (have h3 := hJ; clear hJ; obtain ⟨hd, hg⟩ := h3))
  (try have g := hg.resolve_right (fun h => h.1 (by assumption)))
  (try have g := hg.resolve_left (fun h => absurd h.1 (by assumption)))
  (try (have c0 : k12 = 0 := c_1; subst c0))
  (try (have y := g.2.2.resolve_left (fun h => by omega); clear g hg; try clear o_22; try clear o_36; try clear o_57))
  (try (have y := g.2.2.resolve_right (fun h => by omega); clear g hg; try clear o_22; try clear o_36; try clear o_57))
  (try have ex := enx_b (t := s.2 4) p1)
  (try have q181 := q_18.1.1)
  (try have q311 := q_31.1.1)
  (try have q541 := q_54.1)
  (try have q661 := q_66.1.1)
  (try simp (disch := omega) only [i32_id] at *)
  (try unfold lex3)
  (try simp only [bI_0, bI_n, Classical.not_not] at *)
  (try simp (disch := omega) only [i32_id] at *)
  first | done | omega | ((repeat' (with_reducible apply And.intro)) <;> first | (show lnQ _ _ _ _ _ _ _ _ _ _ _ _ _ _ _ _; have hx : x1 = 0 := c_4; exact lnQ_n y.2.1 y.2.2 rfl q_18 (by rw [rep_h (i := 5) (by decide), rep_t (i := s.2 6 29) rfl]; rfl)) | (show lnQ _ _ _ _ _ _ _ _ _ _ _ _ _ _ _ _; have hx : ¬ x1 = 0 := c_4; exact lnQ_s1 y.2.1 y.2.2 q_31 (by assumption)) | (show lnQ _ _ _ _ _ _ _ _ _ _ _ _ _ _ _ _; have hx : ¬ x1 = 0 := c_4; exact lnQ_s2 y.2.1 y.2.2 q_31 (by assumption) q_54 (by assumption)) | (show lnQ _ _ _ _ _ _ _ _ _ _ _ _ _ _ _ _; have hx : ¬ x1 = 0 := c_4; exact lnQ_s3 y.2.1 y.2.2 q_31 (by assumption) q_54 (by assumption) q_66 (fun w v w2 v2 hx => by rw [rep_h (i := 4) (by decide), hx, rep_s (i := 4 * s.2 6 28 + 3) (by omega), rep_s (i := 4 * s.2 6 28 + 2) (by omega), rep_s (i := 4 * s.2 6 28 + 1) (by omega), rep_s (i := 4 * s.2 6 28) (by omega)]; rfl)) | (show lnQ _ _ _ _ _ _ _ _ _ _ _ _ _ _ _ _; exact lnQ_bad ⟨by omega, by omega⟩ hd g.2.2 g.2.1) | (exact lnG_a hd d3 (by assumption) (by assumption)) | (exact lnG_b hd d3 (by assumption) (by assumption)) | (exact lnG_c hd d4 (by assumption) (by assumption)) | (exact lnG_d hd d4 (by assumption) (by assumption) (by assumption)) | (exact lnG_e hd d3 d4 (by assumption) (by assumption)) | (exact lnG_x d3 d4 (by assumption) (by assumption)) | assumption | rfl | omega | (show lnQ _ _ _ _ _ _ _ _ _ _ _ _ _ _ _ _; exact lnQ_do q_16.1 (by omega) (by omega)) | (intro z hz; exact q_16.2.1 z (by omega)) | (exact q_16.2.2.1) | (intro z hz; rw [upI_n _ _ (by omega)]) | (intro z hz; rfl) | (intro z hz; rw [q_66.2.2.1 z (by omega) (by omega), q_31.2.2.1 z (by omega) (by omega)]) | (intro z hz; exact q_31.2.2.1 z (by omega) (by omega)) | grind [upI])
theorem vX3_line_3 (s : MS) (hp : 0 ≤ (s.1 7) ∧ (s.1 7) ≤ (s.1 6) ∧ (s.1 6) ≤ 800 ∧ (s.1 12) = 0 ∧ (0 ≤ (s.2 6) 24 ∧ (s.2 6) 24 ≤ 100) ∧ ((s.1 21) = 0 → (s.2 6) 27 = 0) ∧ (0 ≤ (s.2 6) 28 ∧ (s.2 6) 28 ≤ 6) ∧ (0 ≤ (s.2 6) 29 ∧ (s.2 6) 29 ≤ 20) ∧ (0 ≤ (s.2 6) 26 ∧ (s.2 6) 26 ≤ 200000)) (x1 : Int) (x2 : Int) (f6 : Int → Int) (f7 : Int → Int) (f8 : Int → Int) (f9 : Int → Int) (k7 : Int) (k8 : Int) (k9 : Int) (k10 : Int) (k11 : Int) (k12 : Int) (k13 : Int) (k21 : Int) (hI : (k7 = s.1 7 ∧ k8 = s.1 8 ∧ k9 = s.1 9 ∧ k10 = s.1 10 ∧ k11 = s.1 11) ∧ (f6 = s.2 6 ∧ f7 = s.2 7 ∧ f8 = s.2 8 ∧ f9 = s.2 9 ∧ k21 = s.1 21) ∧ (k12 = 0 ∧ k13 = s.1 13) ∧ (x1 = bI (s.1 8 = 1 ∧ s.1 11 = 382984) ∧ x2 = bI (s.1 8 = 1 ∧ s.1 11 = 212302449)) ∧ ¬ (s.1 8 = 1 ∧ s.1 11 = 2427955)) (c_1 : ¬ x1 = 0) (c_2 : x1 = 0) (c_3 : ¬ x2 = 0) : (0 ≤ (5 : Int) ∧ (5 : Int) < 6) := by
  obtain ⟨p0, p1, p2, p3, p4, p5, p6, p7, p8⟩ := hp
  (try simp only [Int.add_zero, Int.reduceAdd, bI_0, bI_n, Classical.not_not, p3, true_and] at *)
  (try (have h2 := hI; clear hI; obtain ⟨⟨a1, a2, a3, a4, a5⟩, ⟨b1, b2, b3, b4, b5⟩, hJ⟩ := h2; subst a1 a2 a3 a4 a5 b1 b2 b3 b4 b5))
  (try (have h4 := hJ; obtain ⟨⟨d1, d2⟩, ⟨d3, d4⟩, hd⟩ := h4; clear hJ; subst d1 d2))
  (try simp only [Int.reduceEq, ↓reduceIte] at *)
  (try (have h3 := hJ; clear hJ; obtain ⟨hd, hg⟩ := h3))
  (try have g := hg.resolve_right (fun h => h.1 (by assumption)))
  (try have g := hg.resolve_left (fun h => absurd h.1 (by assumption)))
  (try (have c0 : k12 = 0 := c_1; subst c0))
  (try (have y := g.2.2.resolve_left (fun h => by omega); clear g hg; try clear o_22; try clear o_36; try clear o_57))
  (try (have y := g.2.2.resolve_right (fun h => by omega); clear g hg; try clear o_22; try clear o_36; try clear o_57))
  (try have ex := enx_b (t := s.2 4) p1)
  (try have q181 := q_18.1.1)
  (try have q311 := q_31.1.1)
  (try have q541 := q_54.1)
  (try have q661 := q_66.1.1)
  (try simp (disch := omega) only [i32_id] at *)
  (try unfold lex3)
  (try simp only [bI_0, bI_n, Classical.not_not] at *)
  (try simp (disch := omega) only [i32_id] at *)
  first | done | omega | ((repeat' (with_reducible apply And.intro)) <;> first | (show lnQ _ _ _ _ _ _ _ _ _ _ _ _ _ _ _ _; have hx : x1 = 0 := c_4; exact lnQ_n y.2.1 y.2.2 rfl q_18 (by rw [rep_h (i := 5) (by decide), rep_t (i := s.2 6 29) rfl]; rfl)) | (show lnQ _ _ _ _ _ _ _ _ _ _ _ _ _ _ _ _; have hx : ¬ x1 = 0 := c_4; exact lnQ_s1 y.2.1 y.2.2 q_31 (by assumption)) | (show lnQ _ _ _ _ _ _ _ _ _ _ _ _ _ _ _ _; have hx : ¬ x1 = 0 := c_4; exact lnQ_s2 y.2.1 y.2.2 q_31 (by assumption) q_54 (by assumption)) | (show lnQ _ _ _ _ _ _ _ _ _ _ _ _ _ _ _ _; have hx : ¬ x1 = 0 := c_4; exact lnQ_s3 y.2.1 y.2.2 q_31 (by assumption) q_54 (by assumption) q_66 (fun w v w2 v2 hx => by rw [rep_h (i := 4) (by decide), hx, rep_s (i := 4 * s.2 6 28 + 3) (by omega), rep_s (i := 4 * s.2 6 28 + 2) (by omega), rep_s (i := 4 * s.2 6 28 + 1) (by omega), rep_s (i := 4 * s.2 6 28) (by omega)]; rfl)) | (show lnQ _ _ _ _ _ _ _ _ _ _ _ _ _ _ _ _; exact lnQ_bad ⟨by omega, by omega⟩ hd g.2.2 g.2.1) | (exact lnG_a hd d3 (by assumption) (by assumption)) | (exact lnG_b hd d3 (by assumption) (by assumption)) | (exact lnG_c hd d4 (by assumption) (by assumption)) | (exact lnG_d hd d4 (by assumption) (by assumption) (by assumption)) | (exact lnG_e hd d3 d4 (by assumption) (by assumption)) | (exact lnG_x d3 d4 (by assumption) (by assumption)) | assumption | rfl | omega | (show lnQ _ _ _ _ _ _ _ _ _ _ _ _ _ _ _ _; exact lnQ_do q_16.1 (by omega) (by omega)) | (intro z hz; exact q_16.2.1 z (by omega)) | (exact q_16.2.2.1) | (intro z hz; rw [upI_n _ _ (by omega)]) | (intro z hz; rfl) | (intro z hz; rw [q_66.2.2.1 z (by omega) (by omega), q_31.2.2.1 z (by omega) (by omega)]) | (intro z hz; exact q_31.2.2.1 z (by omega) (by omega)) | grind [upI])
theorem vX3_line_4 (s : MS) (hp : 0 ≤ (s.1 7) ∧ (s.1 7) ≤ (s.1 6) ∧ (s.1 6) ≤ 800 ∧ (s.1 12) = 0 ∧ (0 ≤ (s.2 6) 24 ∧ (s.2 6) 24 ≤ 100) ∧ ((s.1 21) = 0 → (s.2 6) 27 = 0) ∧ (0 ≤ (s.2 6) 28 ∧ (s.2 6) 28 ≤ 6) ∧ (0 ≤ (s.2 6) 29 ∧ (s.2 6) 29 ≤ 20) ∧ (0 ≤ (s.2 6) 26 ∧ (s.2 6) 26 ≤ 200000)) (x1 : Int) (x2 : Int) (f6 : Int → Int) (f7 : Int → Int) (f8 : Int → Int) (f9 : Int → Int) (k7 : Int) (k8 : Int) (k9 : Int) (k10 : Int) (k11 : Int) (k12 : Int) (k13 : Int) (k21 : Int) (hI : (k7 = s.1 7 ∧ k8 = s.1 8 ∧ k9 = s.1 9 ∧ k10 = s.1 10 ∧ k11 = s.1 11) ∧ (f6 = s.2 6 ∧ f7 = s.2 7 ∧ f8 = s.2 8 ∧ f9 = s.2 9 ∧ k21 = s.1 21) ∧ (k12 = 0 ∧ k13 = s.1 13) ∧ (x1 = bI (s.1 8 = 1 ∧ s.1 11 = 382984) ∧ x2 = bI (s.1 8 = 1 ∧ s.1 11 = 212302449)) ∧ ¬ (s.1 8 = 1 ∧ s.1 11 = 2427955)) (c_1 : ¬ x1 = 0) (c_2 : x1 = 0) (c_3 : ¬ x2 = 0) (o_4 : (0 ≤ (5 : Int) ∧ (5 : Int) < 6)) (c_6 : ¬ (f6 (24 + (5 : Int))) = 20) : (k7 = s.1 7 ∧ k8 = s.1 8 ∧ k9 = s.1 9 ∧ k10 = s.1 10 ∧ k11 = s.1 11) ∧ (f6 = s.2 6 ∧ f7 = s.2 7 ∧ f8 = s.2 8 ∧ f9 = s.2 9 ∧ k21 = s.1 21) ∧ lnG (s.1 8) (s.1 11) (s.2 6 28) (s.2 6 29) k12 k13 (s.1 13) (s.1 9) x1 := by
  obtain ⟨p0, p1, p2, p3, p4, p5, p6, p7, p8⟩ := hp
  (try simp only [Int.add_zero, Int.reduceAdd, bI_0, bI_n, Classical.not_not, p3, true_and] at *)
  (try (have h2 := hI; clear hI; obtain ⟨⟨a1, a2, a3, a4, a5⟩, ⟨b1, b2, b3, b4, b5⟩, hJ⟩ := h2; subst a1 a2 a3 a4 a5 b1 b2 b3 b4 b5))
  (try (have h4 := hJ; obtain ⟨⟨d1, d2⟩, ⟨d3, d4⟩, hd⟩ := h4; clear hJ; subst d1 d2))
  (try simp only [Int.reduceEq, ↓reduceIte] at *)
  (try (have h3 := hJ; clear hJ; obtain ⟨hd, hg⟩ := h3))
  (try have g := hg.resolve_right (fun h => h.1 (by assumption)))
  (try have g := hg.resolve_left (fun h => absurd h.1 (by assumption)))
  (try (have c0 : k12 = 0 := c_1; subst c0))
  (try (have y := g.2.2.resolve_left (fun h => by omega); clear g hg; try clear o_22; try clear o_36; try clear o_57))
  (try (have y := g.2.2.resolve_right (fun h => by omega); clear g hg; try clear o_22; try clear o_36; try clear o_57))
  (try have ex := enx_b (t := s.2 4) p1)
  (try have q181 := q_18.1.1)
  (try have q311 := q_31.1.1)
  (try have q541 := q_54.1)
  (try have q661 := q_66.1.1)
  (try simp (disch := omega) only [i32_id] at *)
  (try unfold lex3)
  (try simp only [bI_0, bI_n, Classical.not_not] at *)
  (try simp (disch := omega) only [i32_id] at *)
  first | done | omega | ((repeat' (with_reducible apply And.intro)) <;> first | (show lnQ _ _ _ _ _ _ _ _ _ _ _ _ _ _ _ _; have hx : x1 = 0 := c_4; exact lnQ_n y.2.1 y.2.2 rfl q_18 (by rw [rep_h (i := 5) (by decide), rep_t (i := s.2 6 29) rfl]; rfl)) | (show lnQ _ _ _ _ _ _ _ _ _ _ _ _ _ _ _ _; have hx : ¬ x1 = 0 := c_4; exact lnQ_s1 y.2.1 y.2.2 q_31 (by assumption)) | (show lnQ _ _ _ _ _ _ _ _ _ _ _ _ _ _ _ _; have hx : ¬ x1 = 0 := c_4; exact lnQ_s2 y.2.1 y.2.2 q_31 (by assumption) q_54 (by assumption)) | (show lnQ _ _ _ _ _ _ _ _ _ _ _ _ _ _ _ _; have hx : ¬ x1 = 0 := c_4; exact lnQ_s3 y.2.1 y.2.2 q_31 (by assumption) q_54 (by assumption) q_66 (fun w v w2 v2 hx => by rw [rep_h (i := 4) (by decide), hx, rep_s (i := 4 * s.2 6 28 + 3) (by omega), rep_s (i := 4 * s.2 6 28 + 2) (by omega), rep_s (i := 4 * s.2 6 28 + 1) (by omega), rep_s (i := 4 * s.2 6 28) (by omega)]; rfl)) | (show lnQ _ _ _ _ _ _ _ _ _ _ _ _ _ _ _ _; exact lnQ_bad ⟨by omega, by omega⟩ hd g.2.2 g.2.1) | (exact lnG_a hd d3 (by assumption) (by assumption)) | (exact lnG_b hd d3 (by assumption) (by assumption)) | (exact lnG_c hd d4 (by assumption) (by assumption)) | (exact lnG_d hd d4 (by assumption) (by assumption) (by assumption)) | (exact lnG_e hd d3 d4 (by assumption) (by assumption)) | (exact lnG_x d3 d4 (by assumption) (by assumption)) | assumption | rfl | omega | (show lnQ _ _ _ _ _ _ _ _ _ _ _ _ _ _ _ _; exact lnQ_do q_16.1 (by omega) (by omega)) | (intro z hz; exact q_16.2.1 z (by omega)) | (exact q_16.2.2.1) | (intro z hz; rw [upI_n _ _ (by omega)]) | (intro z hz; rfl) | (intro z hz; rw [q_66.2.2.1 z (by omega) (by omega), q_31.2.2.1 z (by omega) (by omega)]) | (intro z hz; exact q_31.2.2.1 z (by omega) (by omega)) | grind [upI])
theorem vX3_line_5 (s : MS) (hp : 0 ≤ (s.1 7) ∧ (s.1 7) ≤ (s.1 6) ∧ (s.1 6) ≤ 800 ∧ (s.1 12) = 0 ∧ (0 ≤ (s.2 6) 24 ∧ (s.2 6) 24 ≤ 100) ∧ ((s.1 21) = 0 → (s.2 6) 27 = 0) ∧ (0 ≤ (s.2 6) 28 ∧ (s.2 6) 28 ≤ 6) ∧ (0 ≤ (s.2 6) 29 ∧ (s.2 6) 29 ≤ 20) ∧ (0 ≤ (s.2 6) 26 ∧ (s.2 6) 26 ≤ 200000)) (x1 : Int) (x2 : Int) (f6 : Int → Int) (f7 : Int → Int) (f8 : Int → Int) (f9 : Int → Int) (k7 : Int) (k8 : Int) (k9 : Int) (k10 : Int) (k11 : Int) (k12 : Int) (k13 : Int) (k21 : Int) (hI : (k7 = s.1 7 ∧ k8 = s.1 8 ∧ k9 = s.1 9 ∧ k10 = s.1 10 ∧ k11 = s.1 11) ∧ (f6 = s.2 6 ∧ f7 = s.2 7 ∧ f8 = s.2 8 ∧ f9 = s.2 9 ∧ k21 = s.1 21) ∧ (k12 = 0 ∧ k13 = s.1 13) ∧ (x1 = bI (s.1 8 = 1 ∧ s.1 11 = 382984) ∧ x2 = bI (s.1 8 = 1 ∧ s.1 11 = 212302449)) ∧ ¬ (s.1 8 = 1 ∧ s.1 11 = 2427955)) (c_1 : ¬ x1 = 0) (c_2 : x1 = 0) (c_3 : ¬ x2 = 0) (o_4 : (0 ≤ (5 : Int) ∧ (5 : Int) < 6)) (c_6 : ¬ (f6 (24 + (5 : Int))) = 20) : lex3 0 0 0 0 0 1 := by
  obtain ⟨p0, p1, p2, p3, p4, p5, p6, p7, p8⟩ := hp
  (try simp only [Int.add_zero, Int.reduceAdd, bI_0, bI_n, Classical.not_not, p3, true_and] at *)
  (try (have h2 := hI; clear hI; obtain ⟨⟨a1, a2, a3, a4, a5⟩, ⟨b1, b2, b3, b4, b5⟩, hJ⟩ := h2; subst a1 a2 a3 a4 a5 b1 b2 b3 b4 b5))
  (try (have h4 := hJ; obtain ⟨⟨d1, d2⟩, ⟨d3, d4⟩, hd⟩ := h4; clear hJ; subst d1 d2))
  (try simp only [Int.reduceEq, ↓reduceIte] at *)
  (try (have h3 := hJ; clear hJ; obtain ⟨hd, hg⟩ := h3))
  (try have g := hg.resolve_right (fun h => h.1 (by assumption)))
  (try have g := hg.resolve_left (fun h => absurd h.1 (by assumption)))
  (try (have c0 : k12 = 0 := c_1; subst c0))
  (try (have y := g.2.2.resolve_left (fun h => by omega); clear g hg; try clear o_22; try clear o_36; try clear o_57))
  (try (have y := g.2.2.resolve_right (fun h => by omega); clear g hg; try clear o_22; try clear o_36; try clear o_57))
  (try have ex := enx_b (t := s.2 4) p1)
  (try have q181 := q_18.1.1)
  (try have q311 := q_31.1.1)
  (try have q541 := q_54.1)
  (try have q661 := q_66.1.1)
  (try simp (disch := omega) only [i32_id] at *)
  (try unfold lex3)
  (try simp only [bI_0, bI_n, Classical.not_not] at *)
  (try simp (disch := omega) only [i32_id] at *)
  first | done | omega | ((repeat' (with_reducible apply And.intro)) <;> first | (show lnQ _ _ _ _ _ _ _ _ _ _ _ _ _ _ _ _; have hx : x1 = 0 := c_4; exact lnQ_n y.2.1 y.2.2 rfl q_18 (by rw [rep_h (i := 5) (by decide), rep_t (i := s.2 6 29) rfl]; rfl)) | (show lnQ _ _ _ _ _ _ _ _ _ _ _ _ _ _ _ _; have hx : ¬ x1 = 0 := c_4; exact lnQ_s1 y.2.1 y.2.2 q_31 (by assumption)) | (show lnQ _ _ _ _ _ _ _ _ _ _ _ _ _ _ _ _; have hx : ¬ x1 = 0 := c_4; exact lnQ_s2 y.2.1 y.2.2 q_31 (by assumption) q_54 (by assumption)) | (show lnQ _ _ _ _ _ _ _ _ _ _ _ _ _ _ _ _; have hx : ¬ x1 = 0 := c_4; exact lnQ_s3 y.2.1 y.2.2 q_31 (by assumption) q_54 (by assumption) q_66 (fun w v w2 v2 hx => by rw [rep_h (i := 4) (by decide), hx, rep_s (i := 4 * s.2 6 28 + 3) (by omega), rep_s (i := 4 * s.2 6 28 + 2) (by omega), rep_s (i := 4 * s.2 6 28 + 1) (by omega), rep_s (i := 4 * s.2 6 28) (by omega)]; rfl)) | (show lnQ _ _ _ _ _ _ _ _ _ _ _ _ _ _ _ _; exact lnQ_bad ⟨by omega, by omega⟩ hd g.2.2 g.2.1) | (exact lnG_a hd d3 (by assumption) (by assumption)) | (exact lnG_b hd d3 (by assumption) (by assumption)) | (exact lnG_c hd d4 (by assumption) (by assumption)) | (exact lnG_d hd d4 (by assumption) (by assumption) (by assumption)) | (exact lnG_e hd d3 d4 (by assumption) (by assumption)) | (exact lnG_x d3 d4 (by assumption) (by assumption)) | assumption | rfl | omega | (show lnQ _ _ _ _ _ _ _ _ _ _ _ _ _ _ _ _; exact lnQ_do q_16.1 (by omega) (by omega)) | (intro z hz; exact q_16.2.1 z (by omega)) | (exact q_16.2.2.1) | (intro z hz; rw [upI_n _ _ (by omega)]) | (intro z hz; rfl) | (intro z hz; rw [q_66.2.2.1 z (by omega) (by omega), q_31.2.2.1 z (by omega) (by omega)]) | (intro z hz; exact q_31.2.2.1 z (by omega) (by omega)) | grind [upI])
theorem vX3_line_6 (s : MS) (hp : 0 ≤ (s.1 7) ∧ (s.1 7) ≤ (s.1 6) ∧ (s.1 6) ≤ 800 ∧ (s.1 12) = 0 ∧ (0 ≤ (s.2 6) 24 ∧ (s.2 6) 24 ≤ 100) ∧ ((s.1 21) = 0 → (s.2 6) 27 = 0) ∧ (0 ≤ (s.2 6) 28 ∧ (s.2 6) 28 ≤ 6) ∧ (0 ≤ (s.2 6) 29 ∧ (s.2 6) 29 ≤ 20) ∧ (0 ≤ (s.2 6) 26 ∧ (s.2 6) 26 ≤ 200000)) (x1 : Int) (x2 : Int) (f6 : Int → Int) (f7 : Int → Int) (f8 : Int → Int) (f9 : Int → Int) (k7 : Int) (k8 : Int) (k9 : Int) (k10 : Int) (k11 : Int) (k12 : Int) (k13 : Int) (k21 : Int) (hI : (k7 = s.1 7 ∧ k8 = s.1 8 ∧ k9 = s.1 9 ∧ k10 = s.1 10 ∧ k11 = s.1 11) ∧ (f6 = s.2 6 ∧ f7 = s.2 7 ∧ f8 = s.2 8 ∧ f9 = s.2 9 ∧ k21 = s.1 21) ∧ (k12 = 0 ∧ k13 = s.1 13) ∧ (x1 = bI (s.1 8 = 1 ∧ s.1 11 = 382984) ∧ x2 = bI (s.1 8 = 1 ∧ s.1 11 = 212302449)) ∧ ¬ (s.1 8 = 1 ∧ s.1 11 = 2427955)) (c_1 : ¬ x1 = 0) (c_2 : x1 = 0) (c_3 : ¬ x2 = 0) (o_4 : (0 ≤ (5 : Int) ∧ (5 : Int) < 6)) (c_6 : (f6 (24 + (5 : Int))) = 20) : (k7 = s.1 7 ∧ k8 = s.1 8 ∧ k9 = s.1 9 ∧ k10 = s.1 10 ∧ k11 = s.1 11) ∧ (f6 = s.2 6 ∧ f7 = s.2 7 ∧ f8 = s.2 8 ∧ f9 = s.2 9 ∧ k21 = s.1 21) ∧ lnG (s.1 8) (s.1 11) (s.2 6 28) (s.2 6 29) (if k12 = 0 then (3 : Int) else k12) (if k12 = 0 then k9 else k13) (s.1 13) (s.1 9) x1 := by
  obtain ⟨p0, p1, p2, p3, p4, p5, p6, p7, p8⟩ := hp
  (try simp only [Int.add_zero, Int.reduceAdd, bI_0, bI_n, Classical.not_not, p3, true_and] at *)
  (try (have h2 := hI; clear hI; obtain ⟨⟨a1, a2, a3, a4, a5⟩, ⟨b1, b2, b3, b4, b5⟩, hJ⟩ := h2; subst a1 a2 a3 a4 a5 b1 b2 b3 b4 b5))
  (try (have h4 := hJ; obtain ⟨⟨d1, d2⟩, ⟨d3, d4⟩, hd⟩ := h4; clear hJ; subst d1 d2))
  (try simp only [Int.reduceEq, ↓reduceIte] at *)
  (try (have h3 := hJ; clear hJ; obtain ⟨hd, hg⟩ := h3))
  (try have g := hg.resolve_right (fun h => h.1 (by assumption)))
  (try have g := hg.resolve_left (fun h => absurd h.1 (by assumption)))
  (try (have c0 : k12 = 0 := c_1; subst c0))
  (try (have y := g.2.2.resolve_left (fun h => by omega); clear g hg; try clear o_22; try clear o_36; try clear o_57))
  (try (have y := g.2.2.resolve_right (fun h => by omega); clear g hg; try clear o_22; try clear o_36; try clear o_57))
  (try have ex := enx_b (t := s.2 4) p1)
  (try have q181 := q_18.1.1)
  (try have q311 := q_31.1.1)
  (try have q541 := q_54.1)
  (try have q661 := q_66.1.1)
  (try simp (disch := omega) only [i32_id] at *)
  (try unfold lex3)
  (try simp only [bI_0, bI_n, Classical.not_not] at *)
  (try simp (disch := omega) only [i32_id] at *)
  first | done | omega | ((repeat' (with_reducible apply And.intro)) <;> first | (show lnQ _ _ _ _ _ _ _ _ _ _ _ _ _ _ _ _; have hx : x1 = 0 := c_4; exact lnQ_n y.2.1 y.2.2 rfl q_18 (by rw [rep_h (i := 5) (by decide), rep_t (i := s.2 6 29) rfl]; rfl)) | (show lnQ _ _ _ _ _ _ _ _ _ _ _ _ _ _ _ _; have hx : ¬ x1 = 0 := c_4; exact lnQ_s1 y.2.1 y.2.2 q_31 (by assumption)) | (show lnQ _ _ _ _ _ _ _ _ _ _ _ _ _ _ _ _; have hx : ¬ x1 = 0 := c_4; exact lnQ_s2 y.2.1 y.2.2 q_31 (by assumption) q_54 (by assumption)) | (show lnQ _ _ _ _ _ _ _ _ _ _ _ _ _ _ _ _; have hx : ¬ x1 = 0 := c_4; exact lnQ_s3 y.2.1 y.2.2 q_31 (by assumption) q_54 (by assumption) q_66 (fun w v w2 v2 hx => by rw [rep_h (i := 4) (by decide), hx, rep_s (i := 4 * s.2 6 28 + 3) (by omega), rep_s (i := 4 * s.2 6 28 + 2) (by omega), rep_s (i := 4 * s.2 6 28 + 1) (by omega), rep_s (i := 4 * s.2 6 28) (by omega)]; rfl)) | (show lnQ _ _ _ _ _ _ _ _ _ _ _ _ _ _ _ _; exact lnQ_bad ⟨by omega, by omega⟩ hd g.2.2 g.2.1) | (exact lnG_a hd d3 (by assumption) (by assumption)) | (exact lnG_b hd d3 (by assumption) (by assumption)) | (exact lnG_c hd d4 (by assumption) (by assumption)) | (exact lnG_d hd d4 (by assumption) (by assumption) (by assumption)) | (exact lnG_e hd d3 d4 (by assumption) (by assumption)) | (exact lnG_x d3 d4 (by assumption) (by assumption)) | assumption | rfl | omega | (show lnQ _ _ _ _ _ _ _ _ _ _ _ _ _ _ _ _; exact lnQ_do q_16.1 (by omega) (by omega)) | (intro z hz; exact q_16.2.1 z (by omega)) | (exact q_16.2.2.1) | (intro z hz; rw [upI_n _ _ (by omega)]) | (intro z hz; rfl) | (intro z hz; rw [q_66.2.2.1 z (by omega) (by omega), q_31.2.2.1 z (by omega) (by omega)]) | (intro z hz; exact q_31.2.2.1 z (by omega) (by omega)) | grind [upI])
theorem vX3_line_7 (s : MS) (hp : 0 ≤ (s.1 7) ∧ (s.1 7) ≤ (s.1 6) ∧ (s.1 6) ≤ 800 ∧ (s.1 12) = 0 ∧ (0 ≤ (s.2 6) 24 ∧ (s.2 6) 24 ≤ 100) ∧ ((s.1 21) = 0 → (s.2 6) 27 = 0) ∧ (0 ≤ (s.2 6) 28 ∧ (s.2 6) 28 ≤ 6) ∧ (0 ≤ (s.2 6) 29 ∧ (s.2 6) 29 ≤ 20) ∧ (0 ≤ (s.2 6) 26 ∧ (s.2 6) 26 ≤ 200000)) (x1 : Int) (x2 : Int) (f6 : Int → Int) (f7 : Int → Int) (f8 : Int → Int) (f9 : Int → Int) (k7 : Int) (k8 : Int) (k9 : Int) (k10 : Int) (k11 : Int) (k12 : Int) (k13 : Int) (k21 : Int) (hI : (k7 = s.1 7 ∧ k8 = s.1 8 ∧ k9 = s.1 9 ∧ k10 = s.1 10 ∧ k11 = s.1 11) ∧ (f6 = s.2 6 ∧ f7 = s.2 7 ∧ f8 = s.2 8 ∧ f9 = s.2 9 ∧ k21 = s.1 21) ∧ (k12 = 0 ∧ k13 = s.1 13) ∧ (x1 = bI (s.1 8 = 1 ∧ s.1 11 = 382984) ∧ x2 = bI (s.1 8 = 1 ∧ s.1 11 = 212302449)) ∧ ¬ (s.1 8 = 1 ∧ s.1 11 = 2427955)) (c_1 : ¬ x1 = 0) (c_2 : x1 = 0) (c_3 : ¬ x2 = 0) (o_4 : (0 ≤ (5 : Int) ∧ (5 : Int) < 6)) (c_6 : (f6 (24 + (5 : Int))) = 20) : lex3 0 0 0 0 0 1 := by
  obtain ⟨p0, p1, p2, p3, p4, p5, p6, p7, p8⟩ := hp
  (try simp only [Int.add_zero, Int.reduceAdd, bI_0, bI_n, Classical.not_not, p3, true_and] at *)
  (try (have h2 := hI; clear hI; obtain ⟨⟨a1, a2, a3, a4, a5⟩, ⟨b1, b2, b3, b4, b5⟩, hJ⟩ := h2; subst a1 a2 a3 a4 a5 b1 b2 b3 b4 b5))
  (try (have h4 := hJ; obtain ⟨⟨d1, d2⟩, ⟨d3, d4⟩, hd⟩ := h4; clear hJ; subst d1 d2))
  (try simp only [Int.reduceEq, ↓reduceIte] at *)
  (try (have h3 := hJ; clear hJ; obtain ⟨hd, hg⟩ := h3))
  (try have g := hg.resolve_right (fun h => h.1 (by assumption)))
  (try have g := hg.resolve_left (fun h => absurd h.1 (by assumption)))
  (try (have c0 : k12 = 0 := c_1; subst c0))
  (try (have y := g.2.2.resolve_left (fun h => by omega); clear g hg; try clear o_22; try clear o_36; try clear o_57))
  (try (have y := g.2.2.resolve_right (fun h => by omega); clear g hg; try clear o_22; try clear o_36; try clear o_57))
  (try have ex := enx_b (t := s.2 4) p1)
  (try have q181 := q_18.1.1)
  (try have q311 := q_31.1.1)
  (try have q541 := q_54.1)
  (try have q661 := q_66.1.1)
  (try simp (disch := omega) only [i32_id] at *)
  (try unfold lex3)
  (try simp only [bI_0, bI_n, Classical.not_not] at *)
  (try simp (disch := omega) only [i32_id] at *)
  first | done | omega | ((repeat' (with_reducible apply And.intro)) <;> first | (show lnQ _ _ _ _ _ _ _ _ _ _ _ _ _ _ _ _; have hx : x1 = 0 := c_4; exact lnQ_n y.2.1 y.2.2 rfl q_18 (by rw [rep_h (i := 5) (by decide), rep_t (i := s.2 6 29) rfl]; rfl)) | (show lnQ _ _ _ _ _ _ _ _ _ _ _ _ _ _ _ _; have hx : ¬ x1 = 0 := c_4; exact lnQ_s1 y.2.1 y.2.2 q_31 (by assumption)) | (show lnQ _ _ _ _ _ _ _ _ _ _ _ _ _ _ _ _; have hx : ¬ x1 = 0 := c_4; exact lnQ_s2 y.2.1 y.2.2 q_31 (by assumption) q_54 (by assumption)) | (show lnQ _ _ _ _ _ _ _ _ _ _ _ _ _ _ _ _; have hx : ¬ x1 = 0 := c_4; exact lnQ_s3 y.2.1 y.2.2 q_31 (by assumption) q_54 (by assumption) q_66 (fun w v w2 v2 hx => by rw [rep_h (i := 4) (by decide), hx, rep_s (i := 4 * s.2 6 28 + 3) (by omega), rep_s (i := 4 * s.2 6 28 + 2) (by omega), rep_s (i := 4 * s.2 6 28 + 1) (by omega), rep_s (i := 4 * s.2 6 28) (by omega)]; rfl)) | (show lnQ _ _ _ _ _ _ _ _ _ _ _ _ _ _ _ _; exact lnQ_bad ⟨by omega, by omega⟩ hd g.2.2 g.2.1) | (exact lnG_a hd d3 (by assumption) (by assumption)) | (exact lnG_b hd d3 (by assumption) (by assumption)) | (exact lnG_c hd d4 (by assumption) (by assumption)) | (exact lnG_d hd d4 (by assumption) (by assumption) (by assumption)) | (exact lnG_e hd d3 d4 (by assumption) (by assumption)) | (exact lnG_x d3 d4 (by assumption) (by assumption)) | assumption | rfl | omega | (show lnQ _ _ _ _ _ _ _ _ _ _ _ _ _ _ _ _; exact lnQ_do q_16.1 (by omega) (by omega)) | (intro z hz; exact q_16.2.1 z (by omega)) | (exact q_16.2.2.1) | (intro z hz; rw [upI_n _ _ (by omega)]) | (intro z hz; rfl) | (intro z hz; rw [q_66.2.2.1 z (by omega) (by omega), q_31.2.2.1 z (by omega) (by omega)]) | (intro z hz; exact q_31.2.2.1 z (by omega) (by omega)) | grind [upI])
theorem vX3_line_8 (s : MS) (hp : 0 ≤ (s.1 7) ∧ (s.1 7) ≤ (s.1 6) ∧ (s.1 6) ≤ 800 ∧ (s.1 12) = 0 ∧ (0 ≤ (s.2 6) 24 ∧ (s.2 6) 24 ≤ 100) ∧ ((s.1 21) = 0 → (s.2 6) 27 = 0) ∧ (0 ≤ (s.2 6) 28 ∧ (s.2 6) 28 ≤ 6) ∧ (0 ≤ (s.2 6) 29 ∧ (s.2 6) 29 ≤ 20) ∧ (0 ≤ (s.2 6) 26 ∧ (s.2 6) 26 ≤ 200000)) (x1 : Int) (x2 : Int) (f6 : Int → Int) (f7 : Int → Int) (f8 : Int → Int) (f9 : Int → Int) (k7 : Int) (k8 : Int) (k9 : Int) (k10 : Int) (k11 : Int) (k12 : Int) (k13 : Int) (k21 : Int) (hI : (k7 = s.1 7 ∧ k8 = s.1 8 ∧ k9 = s.1 9 ∧ k10 = s.1 10 ∧ k11 = s.1 11) ∧ (f6 = s.2 6 ∧ f7 = s.2 7 ∧ f8 = s.2 8 ∧ f9 = s.2 9 ∧ k21 = s.1 21) ∧ (k12 = 0 ∧ k13 = s.1 13) ∧ (x1 = bI (s.1 8 = 1 ∧ s.1 11 = 382984) ∧ x2 = bI (s.1 8 = 1 ∧ s.1 11 = 212302449)) ∧ ¬ (s.1 8 = 1 ∧ s.1 11 = 2427955)) (c_1 : ¬ x1 = 0) (c_2 : ¬ x1 = 0) : (0 ≤ (4 : Int) ∧ (4 : Int) < 6) := by
  obtain ⟨p0, p1, p2, p3, p4, p5, p6, p7, p8⟩ := hp
  (try simp only [Int.add_zero, Int.reduceAdd, bI_0, bI_n, Classical.not_not, p3, true_and] at *)
  (try (have h2 := hI; clear hI; obtain ⟨⟨a1, a2, a3, a4, a5⟩, ⟨b1, b2, b3, b4, b5⟩, hJ⟩ := h2; subst a1 a2 a3 a4 a5 b1 b2 b3 b4 b5))
  (try (have h4 := hJ; obtain ⟨⟨d1, d2⟩, ⟨d3, d4⟩, hd⟩ := h4; clear hJ; subst d1 d2))
  (try simp only [Int.reduceEq, ↓reduceIte] at *)
  (try (have h3 := hJ; clear hJ; obtain ⟨hd, hg⟩ := h3))
  (try have g := hg.resolve_right (fun h => h.1 (by assumption)))
  (try have g := hg.resolve_left (fun h => absurd h.1 (by assumption)))
  (try (have c0 : k12 = 0 := c_1; subst c0))
  (try (have y := g.2.2.resolve_left (fun h => by omega); clear g hg; try clear o_22; try clear o_36; try clear o_57))
  (try (have y := g.2.2.resolve_right (fun h => by omega); clear g hg; try clear o_22; try clear o_36; try clear o_57))
  (try have ex := enx_b (t := s.2 4) p1)
  (try have q181 := q_18.1.1)
  (try have q311 := q_31.1.1)
  (try have q541 := q_54.1)
  (try have q661 := q_66.1.1)
  (try simp (disch := omega) only [i32_id] at *)
  (try unfold lex3)
  (try simp only [bI_0, bI_n, Classical.not_not] at *)
  (try simp (disch := omega) only [i32_id] at *)
  first | done | omega | ((repeat' (with_reducible apply And.intro)) <;> first | (show lnQ _ _ _ _ _ _ _ _ _ _ _ _ _ _ _ _; have hx : x1 = 0 := c_4; exact lnQ_n y.2.1 y.2.2 rfl q_18 (by rw [rep_h (i := 5) (by decide), rep_t (i := s.2 6 29) rfl]; rfl)) | (show lnQ _ _ _ _ _ _ _ _ _ _ _ _ _ _ _ _; have hx : ¬ x1 = 0 := c_4; exact lnQ_s1 y.2.1 y.2.2 q_31 (by assumption)) | (show lnQ _ _ _ _ _ _ _ _ _ _ _ _ _ _ _ _; have hx : ¬ x1 = 0 := c_4; exact lnQ_s2 y.2.1 y.2.2 q_31 (by assumption) q_54 (by assumption)) | (show lnQ _ _ _ _ _ _ _ _ _ _ _ _ _ _ _ _; have hx : ¬ x1 = 0 := c_4; exact lnQ_s3 y.2.1 y.2.2 q_31 (by assumption) q_54 (by assumption) q_66 (fun w v w2 v2 hx => by rw [rep_h (i := 4) (by decide), hx, rep_s (i := 4 * s.2 6 28 + 3) (by omega), rep_s (i := 4 * s.2 6 28 + 2) (by omega), rep_s (i := 4 * s.2 6 28 + 1) (by omega), rep_s (i := 4 * s.2 6 28) (by omega)]; rfl)) | (show lnQ _ _ _ _ _ _ _ _ _ _ _ _ _ _ _ _; exact lnQ_bad ⟨by omega, by omega⟩ hd g.2.2 g.2.1) | (exact lnG_a hd d3 (by assumption) (by assumption)) | (exact lnG_b hd d3 (by assumption) (by assumption)) | (exact lnG_c hd d4 (by assumption) (by assumption)) | (exact lnG_d hd d4 (by assumption) (by assumption) (by assumption)) | (exact lnG_e hd d3 d4 (by assumption) (by assumption)) | (exact lnG_x d3 d4 (by assumption) (by assumption)) | assumption | rfl | omega | (show lnQ _ _ _ _ _ _ _ _ _ _ _ _ _ _ _ _; exact lnQ_do q_16.1 (by omega) (by omega)) | (intro z hz; exact q_16.2.1 z (by omega)) | (exact q_16.2.2.1) | (intro z hz; rw [upI_n _ _ (by omega)]) | (intro z hz; rfl) | (intro z hz; rw [q_66.2.2.1 z (by omega) (by omega), q_31.2.2.1 z (by omega) (by omega)]) | (intro z hz; exact q_31.2.2.1 z (by omega) (by omega)) | grind [upI])
theorem vX3_line_9 (s : MS) (hp : 0 ≤ (s.1 7) ∧ (s.1 7) ≤ (s.1 6) ∧ (s.1 6) ≤ 800 ∧ (s.1 12) = 0 ∧ (0 ≤ (s.2 6) 24 ∧ (s.2 6) 24 ≤ 100) ∧ ((s.1 21) = 0 → (s.2 6) 27 = 0) ∧ (0 ≤ (s.2 6) 28 ∧ (s.2 6) 28 ≤ 6) ∧ (0 ≤ (s.2 6) 29 ∧ (s.2 6) 29 ≤ 20) ∧ (0 ≤ (s.2 6) 26 ∧ (s.2 6) 26 ≤ 200000)) (x1 : Int) (x2 : Int) (f6 : Int → Int) (f7 : Int → Int) (f8 : Int → Int) (f9 : Int → Int) (k7 : Int) (k8 : Int) (k9 : Int) (k10 : Int) (k11 : Int) (k12 : Int) (k13 : Int) (k21 : Int) (hI : (k7 = s.1 7 ∧ k8 = s.1 8 ∧ k9 = s.1 9 ∧ k10 = s.1 10 ∧ k11 = s.1 11) ∧ (f6 = s.2 6 ∧ f7 = s.2 7 ∧ f8 = s.2 8 ∧ f9 = s.2 9 ∧ k21 = s.1 21) ∧ (k12 = 0 ∧ k13 = s.1 13) ∧ (x1 = bI (s.1 8 = 1 ∧ s.1 11 = 382984) ∧ x2 = bI (s.1 8 = 1 ∧ s.1 11 = 212302449)) ∧ ¬ (s.1 8 = 1 ∧ s.1 11 = 2427955)) (c_1 : ¬ x1 = 0) (c_2 : ¬ x1 = 0) (o_8 : (0 ≤ (4 : Int) ∧ (4 : Int) < 6)) (c_10 : (f6 (24 + (4 : Int))) = 6) : (k7 = s.1 7 ∧ k8 = s.1 8 ∧ k9 = s.1 9 ∧ k10 = s.1 10 ∧ k11 = s.1 11) ∧ (f6 = s.2 6 ∧ f7 = s.2 7 ∧ f8 = s.2 8 ∧ f9 = s.2 9 ∧ k21 = s.1 21) ∧ lnG (s.1 8) (s.1 11) (s.2 6 28) (s.2 6 29) (if k12 = 0 then (3 : Int) else k12) (if k12 = 0 then k9 else k13) (s.1 13) (s.1 9) x1 := by
  obtain ⟨p0, p1, p2, p3, p4, p5, p6, p7, p8⟩ := hp
  (try simp only [Int.add_zero, Int.reduceAdd, bI_0, bI_n, Classical.not_not, p3, true_and] at *)
  (try (have h2 := hI; clear hI; obtain ⟨⟨a1, a2, a3, a4, a5⟩, ⟨b1, b2, b3, b4, b5⟩, hJ⟩ := h2; subst a1 a2 a3 a4 a5 b1 b2 b3 b4 b5))
  (try (have h4 := hJ; obtain ⟨⟨d1, d2⟩, ⟨d3, d4⟩, hd⟩ := h4; clear hJ; subst d1 d2))
  (try simp only [Int.reduceEq, ↓reduceIte] at *)
  (try (have h3 := hJ; clear hJ; obtain ⟨hd, hg⟩ := h3))
  (try have g := hg.resolve_right (fun h => h.1 (by assumption)))
  (try have g := hg.resolve_left (fun h => absurd h.1 (by assumption)))
  (try (have c0 : k12 = 0 := c_1; subst c0))
  (try (have y := g.2.2.resolve_left (fun h => by omega); clear g hg; try clear o_22; try clear o_36; try clear o_57))
  (try (have y := g.2.2.resolve_right (fun h => by omega); clear g hg; try clear o_22; try clear o_36; try clear o_57))
  (try have ex := enx_b (t := s.2 4) p1)
  (try have q181 := q_18.1.1)
  (try have q311 := q_31.1.1)
  (try have q541 := q_54.1)
  (try have q661 := q_66.1.1)
  (try simp (disch := omega) only [i32_id] at *)
  (try unfold lex3)
  (try simp only [bI_0, bI_n, Classical.not_not] at *)
  (try simp (disch := omega) only [i32_id] at *)
  first | done | omega | ((repeat' (with_reducible apply And.intro)) <;> first | (show lnQ _ _ _ _ _ _ _ _ _ _ _ _ _ _ _ _; have hx : x1 = 0 := c_4; exact lnQ_n y.2.1 y.2.2 rfl q_18 (by rw [rep_h (i := 5) (by decide), rep_t (i := s.2 6 29) rfl]; rfl)) | (show lnQ _ _ _ _ _ _ _ _ _ _ _ _ _ _ _ _; have hx : ¬ x1 = 0 := c_4; exact lnQ_s1 y.2.1 y.2.2 q_31 (by assumption)) | (show lnQ _ _ _ _ _ _ _ _ _ _ _ _ _ _ _ _; have hx : ¬ x1 = 0 := c_4; exact lnQ_s2 y.2.1 y.2.2 q_31 (by assumption) q_54 (by assumption)) | (show lnQ _ _ _ _ _ _ _ _ _ _ _ _ _ _ _ _; have hx : ¬ x1 = 0 := c_4; exact lnQ_s3 y.2.1 y.2.2 q_31 (by assumption) q_54 (by assumption) q_66 (fun w v w2 v2 hx => by rw [rep_h (i := 4) (by decide), hx, rep_s (i := 4 * s.2 6 28 + 3) (by omega), rep_s (i := 4 * s.2 6 28 + 2) (by omega), rep_s (i := 4 * s.2 6 28 + 1) (by omega), rep_s (i := 4 * s.2 6 28) (by omega)]; rfl)) | (show lnQ _ _ _ _ _ _ _ _ _ _ _ _ _ _ _ _; exact lnQ_bad ⟨by omega, by omega⟩ hd g.2.2 g.2.1) | (exact lnG_a hd d3 (by assumption) (by assumption)) | (exact lnG_b hd d3 (by assumption) (by assumption)) | (exact lnG_c hd d4 (by assumption) (by assumption)) | (exact lnG_d hd d4 (by assumption) (by assumption) (by assumption)) | (exact lnG_e hd d3 d4 (by assumption) (by assumption)) | (exact lnG_x d3 d4 (by assumption) (by assumption)) | assumption | rfl | omega | (show lnQ _ _ _ _ _ _ _ _ _ _ _ _ _ _ _ _; exact lnQ_do q_16.1 (by omega) (by omega)) | (intro z hz; exact q_16.2.1 z (by omega)) | (exact q_16.2.2.1) | (intro z hz; rw [upI_n _ _ (by omega)]) | (intro z hz; rfl) | (intro z hz; rw [q_66.2.2.1 z (by omega) (by omega), q_31.2.2.1 z (by omega) (by omega)]) | (intro z hz; exact q_31.2.2.1 z (by omega) (by omega)) | grind [upI])
theorem vX3_line_10 (s : MS) (hp : 0 ≤ (s.1 7) ∧ (s.1 7) ≤ (s.1 6) ∧ (s.1 6) ≤ 800 ∧ (s.1 12) = 0 ∧ (0 ≤ (s.2 6) 24 ∧ (s.2 6) 24 ≤ 100) ∧ ((s.1 21) = 0 → (s.2 6) 27 = 0) ∧ (0 ≤ (s.2 6) 28 ∧ (s.2 6) 28 ≤ 6) ∧ (0 ≤ (s.2 6) 29 ∧ (s.2 6) 29 ≤ 20) ∧ (0 ≤ (s.2 6) 26 ∧ (s.2 6) 26 ≤ 200000)) (x1 : Int) (x2 : Int) (f6 : Int → Int) (f7 : Int → Int) (f8 : Int → Int) (f9 : Int → Int) (k7 : Int) (k8 : Int) (k9 : Int) (k10 : Int) (k11 : Int) (k12 : Int) (k13 : Int) (k21 : Int) (hI : (k7 = s.1 7 ∧ k8 = s.1 8 ∧ k9 = s.1 9 ∧ k10 = s.1 10 ∧ k11 = s.1 11) ∧ (f6 = s.2 6 ∧ f7 = s.2 7 ∧ f8 = s.2 8 ∧ f9 = s.2 9 ∧ k21 = s.1 21) ∧ (k12 = 0 ∧ k13 = s.1 13) ∧ (x1 = bI (s.1 8 = 1 ∧ s.1 11 = 382984) ∧ x2 = bI (s.1 8 = 1 ∧ s.1 11 = 212302449)) ∧ ¬ (s.1 8 = 1 ∧ s.1 11 = 2427955)) (c_1 : ¬ x1 = 0) (c_2 : ¬ x1 = 0) (o_8 : (0 ≤ (4 : Int) ∧ (4 : Int) < 6)) (c_10 : (f6 (24 + (4 : Int))) = 6) : lex3 0 0 0 0 0 1 := by
  obtain ⟨p0, p1, p2, p3, p4, p5, p6, p7, p8⟩ := hp
  (try simp only [Int.add_zero, Int.reduceAdd, bI_0, bI_n, Classical.not_not, p3, true_and] at *)
  (try (have h2 := hI; clear hI; obtain ⟨⟨a1, a2, a3, a4, a5⟩, ⟨b1, b2, b3, b4, b5⟩, hJ⟩ := h2; subst a1 a2 a3 a4 a5 b1 b2 b3 b4 b5))
  (try (have h4 := hJ; obtain ⟨⟨d1, d2⟩, ⟨d3, d4⟩, hd⟩ := h4; clear hJ; subst d1 d2))
  (try simp only [Int.reduceEq, ↓reduceIte] at *)
  (try (have h3 := hJ; clear hJ; obtain ⟨hd, hg⟩ := h3))
  (try have g := hg.resolve_right (fun h => h.1 (by assumption)))
  (try have g := hg.resolve_left (fun h => absurd h.1 (by assumption)))
  (try (have c0 : k12 = 0 := c_1; subst c0))
  (try (have y := g.2.2.resolve_left (fun h => by omega); clear g hg; try clear o_22; try clear o_36; try clear o_57))
  (try (have y := g.2.2.resolve_right (fun h => by omega); clear g hg; try clear o_22; try clear o_36; try clear o_57))
  (try have ex := enx_b (t := s.2 4) p1)
  (try have q181 := q_18.1.1)
  (try have q311 := q_31.1.1)
  (try have q541 := q_54.1)
  (try have q661 := q_66.1.1)
  (try simp (disch := omega) only [i32_id] at *)
  (try unfold lex3)
  (try simp only [bI_0, bI_n, Classical.not_not] at *)
  (try simp (disch := omega) only [i32_id] at *)
  first | done | omega | ((repeat' (with_reducible apply And.intro)) <;> first | (show lnQ _ _ _ _ _ _ _ _ _ _ _ _ _ _ _ _; have hx : x1 = 0 := c_4; exact lnQ_n y.2.1 y.2.2 rfl q_18 (by rw [rep_h (i := 5) (by decide), rep_t (i := s.2 6 29) rfl]; rfl)) | (show lnQ _ _ _ _ _ _ _ _ _ _ _ _ _ _ _ _; have hx : ¬ x1 = 0 := c_4; exact lnQ_s1 y.2.1 y.2.2 q_31 (by assumption)) | (show lnQ _ _ _ _ _ _ _ _ _ _ _ _ _ _ _ _; have hx : ¬ x1 = 0 := c_4; exact lnQ_s2 y.2.1 y.2.2 q_31 (by assumption) q_54 (by assumption)) | (show lnQ _ _ _ _ _ _ _ _ _ _ _ _ _ _ _ _; have hx : ¬ x1 = 0 := c_4; exact lnQ_s3 y.2.1 y.2.2 q_31 (by assumption) q_54 (by assumption) q_66 (fun w v w2 v2 hx => by rw [rep_h (i := 4) (by decide), hx, rep_s (i := 4 * s.2 6 28 + 3) (by omega), rep_s (i := 4 * s.2 6 28 + 2) (by omega), rep_s (i := 4 * s.2 6 28 + 1) (by omega), rep_s (i := 4 * s.2 6 28) (by omega)]; rfl)) | (show lnQ _ _ _ _ _ _ _ _ _ _ _ _ _ _ _ _; exact lnQ_bad ⟨by omega, by omega⟩ hd g.2.2 g.2.1) | (exact lnG_a hd d3 (by assumption) (by assumption)) | (exact lnG_b hd d3 (by assumption) (by assumption)) | (exact lnG_c hd d4 (by assumption) (by assumption)) | (exact lnG_d hd d4 (by assumption) (by assumption) (by assumption)) | (exact lnG_e hd d3 d4 (by assumption) (by assumption)) | (exact lnG_x d3 d4 (by assumption) (by assumption)) | assumption | rfl | omega | (show lnQ _ _ _ _ _ _ _ _ _ _ _ _ _ _ _ _; exact lnQ_do q_16.1 (by omega) (by omega)) | (intro z hz; exact q_16.2.1 z (by omega)) | (exact q_16.2.2.1) | (intro z hz; rw [upI_n _ _ (by omega)]) | (intro z hz; rfl) | (intro z hz; rw [q_66.2.2.1 z (by omega) (by omega), q_31.2.2.1 z (by omega) (by omega)]) | (intro z hz; exact q_31.2.2.1 z (by omega) (by omega)) | grind [upI])
theorem vX3_line_11 (s : MS) (hp : 0 ≤ (s.1 7) ∧ (s.1 7) ≤ (s.1 6) ∧ (s.1 6) ≤ 800 ∧ (s.1 12) = 0 ∧ (0 ≤ (s.2 6) 24 ∧ (s.2 6) 24 ≤ 100) ∧ ((s.1 21) = 0 → (s.2 6) 27 = 0) ∧ (0 ≤ (s.2 6) 28 ∧ (s.2 6) 28 ≤ 6) ∧ (0 ≤ (s.2 6) 29 ∧ (s.2 6) 29 ≤ 20) ∧ (0 ≤ (s.2 6) 26 ∧ (s.2 6) 26 ≤ 200000)) (x1 : Int) (x2 : Int) (f6 : Int → Int) (f7 : Int → Int) (f8 : Int → Int) (f9 : Int → Int) (k7 : Int) (k8 : Int) (k9 : Int) (k10 : Int) (k11 : Int) (k12 : Int) (k13 : Int) (k21 : Int) (hI : (k7 = s.1 7 ∧ k8 = s.1 8 ∧ k9 = s.1 9 ∧ k10 = s.1 10 ∧ k11 = s.1 11) ∧ (f6 = s.2 6 ∧ f7 = s.2 7 ∧ f8 = s.2 8 ∧ f9 = s.2 9 ∧ k21 = s.1 21) ∧ (k12 = 0 ∧ k13 = s.1 13) ∧ (x1 = bI (s.1 8 = 1 ∧ s.1 11 = 382984) ∧ x2 = bI (s.1 8 = 1 ∧ s.1 11 = 212302449)) ∧ ¬ (s.1 8 = 1 ∧ s.1 11 = 2427955)) (c_1 : ¬ x1 = 0) (c_2 : ¬ x1 = 0) (o_8 : (0 ≤ (4 : Int) ∧ (4 : Int) < 6)) (c_10 : ¬ (f6 (24 + (4 : Int))) = 6) (c_12 : x2 = 0) : (k7 = s.1 7 ∧ k8 = s.1 8 ∧ k9 = s.1 9 ∧ k10 = s.1 10 ∧ k11 = s.1 11) ∧ (f6 = s.2 6 ∧ f7 = s.2 7 ∧ f8 = s.2 8 ∧ f9 = s.2 9 ∧ k21 = s.1 21) ∧ lnG (s.1 8) (s.1 11) (s.2 6 28) (s.2 6 29) k12 k13 (s.1 13) (s.1 9) x1 := by
  obtain ⟨p0, p1, p2, p3, p4, p5, p6, p7, p8⟩ := hp
  (try simp only [Int.add_zero, Int.reduceAdd, bI_0, bI_n, Classical.not_not, p3, true_and] at *)
  (try (have h2 := hI; clear hI; obtain ⟨⟨a1, a2, a3, a4, a5⟩, ⟨b1, b2, b3, b4, b5⟩, hJ⟩ := h2; subst a1 a2 a3 a4 a5 b1 b2 b3 b4 b5))
  (try (have h4 := hJ; obtain ⟨⟨d1, d2⟩, ⟨d3, d4⟩, hd⟩ := h4; clear hJ; subst d1 d2))
  (try simp only [Int.reduceEq, ↓reduceIte] at *)
  (try (have h3 := hJ; clear hJ; obtain ⟨hd, hg⟩ := h3))
  (try have g := hg.resolve_right (fun h => h.1 (by assumption)))
  (try have g := hg.resolve_left (fun h => absurd h.1 (by assumption)))
  (try (have c0 : k12 = 0 := c_1; subst c0))
  (try (have y := g.2.2.resolve_left (fun h => by omega); clear g hg; try clear o_22; try clear o_36; try clear o_57))
  (try (have y := g.2.2.resolve_right (fun h => by omega); clear g hg; try clear o_22; try clear o_36; try clear o_57))
  (try have ex := enx_b (t := s.2 4) p1)
  (try have q181 := q_18.1.1)
  (try have q311 := q_31.1.1)
  (try have q541 := q_54.1)
  (try have q661 := q_66.1.1)
  (try simp (disch := omega) only [i32_id] at *)
  (try unfold lex3)
  (try simp only [bI_0, bI_n, Classical.not_not] at *)
  (try simp (disch := omega) only [i32_id] at *)
  first | done | omega | ((repeat' (with_reducible apply And.intro)) <;> first | (show lnQ _ _ _ _ _ _ _ _ _ _ _ _ _ _ _ _; have hx : x1 = 0 := c_4; exact lnQ_n y.2.1 y.2.2 rfl q_18 (by rw [rep_h (i := 5) (by decide), rep_t (i := s.2 6 29) rfl]; rfl)) | (show lnQ _ _ _ _ _ _ _ _ _ _ _ _ _ _ _ _; have hx : ¬ x1 = 0 := c_4; exact lnQ_s1 y.2.1 y.2.2 q_31 (by assumption)) | (show lnQ _ _ _ _ _ _ _ _ _ _ _ _ _ _ _ _; have hx : ¬ x1 = 0 := c_4; exact lnQ_s2 y.2.1 y.2.2 q_31 (by assumption) q_54 (by assumption)) | (show lnQ _ _ _ _ _ _ _ _ _ _ _ _ _ _ _ _; have hx : ¬ x1 = 0 := c_4; exact lnQ_s3 y.2.1 y.2.2 q_31 (by assumption) q_54 (by assumption) q_66 (fun w v w2 v2 hx => by rw [rep_h (i := 4) (by decide), hx, rep_s (i := 4 * s.2 6 28 + 3) (by omega), rep_s (i := 4 * s.2 6 28 + 2) (by omega), rep_s (i := 4 * s.2 6 28 + 1) (by omega), rep_s (i := 4 * s.2 6 28) (by omega)]; rfl)) | (show lnQ _ _ _ _ _ _ _ _ _ _ _ _ _ _ _ _; exact lnQ_bad ⟨by omega, by omega⟩ hd g.2.2 g.2.1) | (exact lnG_a hd d3 (by assumption) (by assumption)) | (exact lnG_b hd d3 (by assumption) (by assumption)) | (exact lnG_c hd d4 (by assumption) (by assumption)) | (exact lnG_d hd d4 (by assumption) (by assumption) (by assumption)) | (exact lnG_e hd d3 d4 (by assumption) (by assumption)) | (exact lnG_x d3 d4 (by assumption) (by assumption)) | assumption | rfl | omega | (show lnQ _ _ _ _ _ _ _ _ _ _ _ _ _ _ _ _; exact lnQ_do q_16.1 (by omega) (by omega)) | (intro z hz; exact q_16.2.1 z (by omega)) | (exact q_16.2.2.1) | (intro z hz; rw [upI_n _ _ (by omega)]) | (intro z hz; rfl) | (intro z hz; rw [q_66.2.2.1 z (by omega) (by omega), q_31.2.2.1 z (by omega) (by omega)]) | (intro z hz; exact q_31.2.2.1 z (by omega) (by omega)) | grind [upI])
theorem vX3_line_12 (s : MS) (hp : 0 ≤ (s.1 7) ∧ (s.1 7) ≤ (s.1 6) ∧ (s.1 6) ≤ 800 ∧ (s.1 12) = 0 ∧ (0 ≤ (s.2 6) 24 ∧ (s.2 6) 24 ≤ 100) ∧ ((s.1 21) = 0 → (s.2 6) 27 = 0) ∧ (0 ≤ (s.2 6) 28 ∧ (s.2 6) 28 ≤ 6) ∧ (0 ≤ (s.2 6) 29 ∧ (s.2 6) 29 ≤ 20) ∧ (0 ≤ (s.2 6) 26 ∧ (s.2 6) 26 ≤ 200000)) (x1 : Int) (x2 : Int) (f6 : Int → Int) (f7 : Int → Int) (f8 : Int → Int) (f9 : Int → Int) (k7 : Int) (k8 : Int) (k9 : Int) (k10 : Int) (k11 : Int) (k12 : Int) (k13 : Int) (k21 : Int) (hI : (k7 = s.1 7 ∧ k8 = s.1 8 ∧ k9 = s.1 9 ∧ k10 = s.1 10 ∧ k11 = s.1 11) ∧ (f6 = s.2 6 ∧ f7 = s.2 7 ∧ f8 = s.2 8 ∧ f9 = s.2 9 ∧ k21 = s.1 21) ∧ (k12 = 0 ∧ k13 = s.1 13) ∧ (x1 = bI (s.1 8 = 1 ∧ s.1 11 = 382984) ∧ x2 = bI (s.1 8 = 1 ∧ s.1 11 = 212302449)) ∧ ¬ (s.1 8 = 1 ∧ s.1 11 = 2427955)) (c_1 : ¬ x1 = 0) (c_2 : ¬ x1 = 0) (o_8 : (0 ≤ (4 : Int) ∧ (4 : Int) < 6)) (c_10 : ¬ (f6 (24 + (4 : Int))) = 6) (c_12 : x2 = 0) : lex3 0 0 0 0 0 1 := by
  obtain ⟨p0, p1, p2, p3, p4, p5, p6, p7, p8⟩ := hp
  (try simp only [Int.add_zero, Int.reduceAdd, bI_0, bI_n, Classical.not_not, p3, true_and] at *)
  (try (have h2 := hI; clear hI; obtain ⟨⟨a1, a2, a3, a4, a5⟩, ⟨b1, b2, b3, b4, b5⟩, hJ⟩ := h2; subst a1 a2 a3 a4 a5 b1 b2 b3 b4 b5))
  (try (have h4 := hJ; obtain ⟨⟨d1, d2⟩, ⟨d3, d4⟩, hd⟩ := h4; clear hJ; subst d1 d2))
  (try simp only [Int.reduceEq, ↓reduceIte] at *)
  (try (have h3 := hJ; clear hJ; obtain ⟨hd, hg⟩ := h3))
  (try have g := hg.resolve_right (fun h => h.1 (by assumption)))
  (try have g := hg.resolve_left (fun h => absurd h.1 (by assumption)))
  (try (have c0 : k12 = 0 := c_1; subst c0))
  (try (have y := g.2.2.resolve_left (fun h => by omega); clear g hg; try clear o_22; try clear o_36; try clear o_57))
  (try (have y := g.2.2.resolve_right (fun h => by omega); clear g hg; try clear o_22; try clear o_36; try clear o_57))
  (try have ex := enx_b (t := s.2 4) p1)
  (try have q181 := q_18.1.1)
  (try have q311 := q_31.1.1)
  (try have q541 := q_54.1)
  (try have q661 := q_66.1.1)
  (try simp (disch := omega) only [i32_id] at *)
  (try unfold lex3)
  (try simp only [bI_0, bI_n, Classical.not_not] at *)
  (try simp (disch := omega) only [i32_id] at *)
  first | done | omega | ((repeat' (with_reducible apply And.intro)) <;> first | (show lnQ _ _ _ _ _ _ _ _ _ _ _ _ _ _ _ _; have hx : x1 = 0 := c_4; exact lnQ_n y.2.1 y.2.2 rfl q_18 (by rw [rep_h (i := 5) (by decide), rep_t (i := s.2 6 29) rfl]; rfl)) | (show lnQ _ _ _ _ _ _ _ _ _ _ _ _ _ _ _ _; have hx : ¬ x1 = 0 := c_4; exact lnQ_s1 y.2.1 y.2.2 q_31 (by assumption)) | (show lnQ _ _ _ _ _ _ _ _ _ _ _ _ _ _ _ _; have hx : ¬ x1 = 0 := c_4; exact lnQ_s2 y.2.1 y.2.2 q_31 (by assumption) q_54 (by assumption)) | (show lnQ _ _ _ _ _ _ _ _ _ _ _ _ _ _ _ _; have hx : ¬ x1 = 0 := c_4; exact lnQ_s3 y.2.1 y.2.2 q_31 (by assumption) q_54 (by assumption) q_66 (fun w v w2 v2 hx => by rw [rep_h (i := 4) (by decide), hx, rep_s (i := 4 * s.2 6 28 + 3) (by omega), rep_s (i := 4 * s.2 6 28 + 2) (by omega), rep_s (i := 4 * s.2 6 28 + 1) (by omega), rep_s (i := 4 * s.2 6 28) (by omega)]; rfl)) | (show lnQ _ _ _ _ _ _ _ _ _ _ _ _ _ _ _ _; exact lnQ_bad ⟨by omega, by omega⟩ hd g.2.2 g.2.1) | (exact lnG_a hd d3 (by assumption) (by assumption)) | (exact lnG_b hd d3 (by assumption) (by assumption)) | (exact lnG_c hd d4 (by assumption) (by assumption)) | (exact lnG_d hd d4 (by assumption) (by assumption) (by assumption)) | (exact lnG_e hd d3 d4 (by assumption) (by assumption)) | (exact lnG_x d3 d4 (by assumption) (by assumption)) | assumption | rfl | omega | (show lnQ _ _ _ _ _ _ _ _ _ _ _ _ _ _ _ _; exact lnQ_do q_16.1 (by omega) (by omega)) | (intro z hz; exact q_16.2.1 z (by omega)) | (exact q_16.2.2.1) | (intro z hz; rw [upI_n _ _ (by omega)]) | (intro z hz; rfl) | (intro z hz; rw [q_66.2.2.1 z (by omega) (by omega), q_31.2.2.1 z (by omega) (by omega)]) | (intro z hz; exact q_31.2.2.1 z (by omega) (by omega)) | grind [upI])
theorem vX3_line_13 (s : MS) (hp : 0 ≤ (s.1 7) ∧ (s.1 7) ≤ (s.1 6) ∧ (s.1 6) ≤ 800 ∧ (s.1 12) = 0 ∧ (0 ≤ (s.2 6) 24 ∧ (s.2 6) 24 ≤ 100) ∧ ((s.1 21) = 0 → (s.2 6) 27 = 0) ∧ (0 ≤ (s.2 6) 28 ∧ (s.2 6) 28 ≤ 6) ∧ (0 ≤ (s.2 6) 29 ∧ (s.2 6) 29 ≤ 20) ∧ (0 ≤ (s.2 6) 26 ∧ (s.2 6) 26 ≤ 200000)) (x1 : Int) (x2 : Int) (f6 : Int → Int) (f7 : Int → Int) (f8 : Int → Int) (f9 : Int → Int) (k7 : Int) (k8 : Int) (k9 : Int) (k10 : Int) (k11 : Int) (k12 : Int) (k13 : Int) (k21 : Int) (hI : (k7 = s.1 7 ∧ k8 = s.1 8 ∧ k9 = s.1 9 ∧ k10 = s.1 10 ∧ k11 = s.1 11) ∧ (f6 = s.2 6 ∧ f7 = s.2 7 ∧ f8 = s.2 8 ∧ f9 = s.2 9 ∧ k21 = s.1 21) ∧ (k12 = 0 ∧ k13 = s.1 13) ∧ (x1 = bI (s.1 8 = 1 ∧ s.1 11 = 382984) ∧ x2 = bI (s.1 8 = 1 ∧ s.1 11 = 212302449)) ∧ ¬ (s.1 8 = 1 ∧ s.1 11 = 2427955)) (c_1 : ¬ x1 = 0) (c_2 : ¬ x1 = 0) (o_8 : (0 ≤ (4 : Int) ∧ (4 : Int) < 6)) (c_10 : ¬ (f6 (24 + (4 : Int))) = 6) (c_12 : ¬ x2 = 0) : (0 ≤ (5 : Int) ∧ (5 : Int) < 6) := by
  obtain ⟨p0, p1, p2, p3, p4, p5, p6, p7, p8⟩ := hp
  (try simp only [Int.add_zero, Int.reduceAdd, bI_0, bI_n, Classical.not_not, p3, true_and] at *)
  (try (have h2 := hI; clear hI; obtain ⟨⟨a1, a2, a3, a4, a5⟩, ⟨b1, b2, b3, b4, b5⟩, hJ⟩ := h2; subst a1 a2 a3 a4 a5 b1 b2 b3 b4 b5))
  (try (have h4 := hJ; obtain ⟨⟨d1, d2⟩, ⟨d3, d4⟩, hd⟩ := h4; clear hJ; subst d1 d2))
  (try simp only [Int.reduceEq, ↓reduceIte] at *)
  (try (have h3 := hJ; clear hJ; obtain ⟨hd, hg⟩ := h3))
  (try have g := hg.resolve_right (fun h => h.1 (by assumption)))
  (try have g := hg.resolve_left (fun h => absurd h.1 (by assumption)))
  (try (have c0 : k12 = 0 := c_1; subst c0))
  (try (have y := g.2.2.resolve_left (fun h => by omega); clear g hg; try clear o_22; try clear o_36; try clear o_57))
  (try (have y := g.2.2.resolve_right (fun h => by omega); clear g hg; try clear o_22; try clear o_36; try clear o_57))
  (try have ex := enx_b (t := s.2 4) p1)
  (try have q181 := q_18.1.1)
  (try have q311 := q_31.1.1)
  (try have q541 := q_54.1)
  (try have q661 := q_66.1.1)
  (try simp (disch := omega) only [i32_id] at *)
  (try unfold lex3)
  (try simp only [bI_0, bI_n, Classical.not_not] at *)
  (try simp (disch := omega) only [i32_id] at *)
  first | done | omega | ((repeat' (with_reducible apply And.intro)) <;> first | (show lnQ _ _ _ _ _ _ _ _ _ _ _ _ _ _ _ _; have hx : x1 = 0 := c_4; exact lnQ_n y.2.1 y.2.2 rfl q_18 (by rw [rep_h (i := 5) (by decide), rep_t (i := s.2 6 29) rfl]; rfl)) | (show lnQ _ _ _ _ _ _ _ _ _ _ _ _ _ _ _ _; have hx : ¬ x1 = 0 := c_4; exact lnQ_s1 y.2.1 y.2.2 q_31 (by assumption)) | (show lnQ _ _ _ _ _ _ _ _ _ _ _ _ _ _ _ _; have hx : ¬ x1 = 0 := c_4; exact lnQ_s2 y.2.1 y.2.2 q_31 (by assumption) q_54 (by assumption)) | (show lnQ _ _ _ _ _ _ _ _ _ _ _ _ _ _ _ _; have hx : ¬ x1 = 0 := c_4; exact lnQ_s3 y.2.1 y.2.2 q_31 (by assumption) q_54 (by assumption) q_66 (fun w v w2 v2 hx => by rw [rep_h (i := 4) (by decide), hx, rep_s (i := 4 * s.2 6 28 + 3) (by omega), rep_s (i := 4 * s.2 6 28 + 2) (by omega), rep_s (i := 4 * s.2 6 28 + 1) (by omega), rep_s (i := 4 * s.2 6 28) (by omega)]; rfl)) | (show lnQ _ _ _ _ _ _ _ _ _ _ _ _ _ _ _ _; exact lnQ_bad ⟨by omega, by omega⟩ hd g.2.2 g.2.1) | (exact lnG_a hd d3 (by assumption) (by assumption)) | (exact lnG_b hd d3 (by assumption) (by assumption)) | (exact lnG_c hd d4 (by assumption) (by assumption)) | (exact lnG_d hd d4 (by assumption) (by assumption) (by assumption)) | (exact lnG_e hd d3 d4 (by assumption) (by assumption)) | (exact lnG_x d3 d4 (by assumption) (by assumption)) | assumption | rfl | omega | (show lnQ _ _ _ _ _ _ _ _ _ _ _ _ _ _ _ _; exact lnQ_do q_16.1 (by omega) (by omega)) | (intro z hz; exact q_16.2.1 z (by omega)) | (exact q_16.2.2.1) | (intro z hz; rw [upI_n _ _ (by omega)]) | (intro z hz; rfl) | (intro z hz; rw [q_66.2.2.1 z (by omega) (by omega), q_31.2.2.1 z (by omega) (by omega)]) | (intro z hz; exact q_31.2.2.1 z (by omega) (by omega)) | grind [upI])
theorem vX3_line_14 (s : MS) (hp : 0 ≤ (s.1 7) ∧ (s.1 7) ≤ (s.1 6) ∧ (s.1 6) ≤ 800 ∧ (s.1 12) = 0 ∧ (0 ≤ (s.2 6) 24 ∧ (s.2 6) 24 ≤ 100) ∧ ((s.1 21) = 0 → (s.2 6) 27 = 0) ∧ (0 ≤ (s.2 6) 28 ∧ (s.2 6) 28 ≤ 6) ∧ (0 ≤ (s.2 6) 29 ∧ (s.2 6) 29 ≤ 20) ∧ (0 ≤ (s.2 6) 26 ∧ (s.2 6) 26 ≤ 200000)) (x1 : Int) (x2 : Int) (f6 : Int → Int) (f7 : Int → Int) (f8 : Int → Int) (f9 : Int → Int) (k7 : Int) (k8 : Int) (k9 : Int) (k10 : Int) (k11 : Int) (k12 : Int) (k13 : Int) (k21 : Int) (hI : (k7 = s.1 7 ∧ k8 = s.1 8 ∧ k9 = s.1 9 ∧ k10 = s.1 10 ∧ k11 = s.1 11) ∧ (f6 = s.2 6 ∧ f7 = s.2 7 ∧ f8 = s.2 8 ∧ f9 = s.2 9 ∧ k21 = s.1 21) ∧ (k12 = 0 ∧ k13 = s.1 13) ∧ (x1 = bI (s.1 8 = 1 ∧ s.1 11 = 382984) ∧ x2 = bI (s.1 8 = 1 ∧ s.1 11 = 212302449)) ∧ ¬ (s.1 8 = 1 ∧ s.1 11 = 2427955)) (c_1 : ¬ x1 = 0) (c_2 : ¬ x1 = 0) (o_8 : (0 ≤ (4 : Int) ∧ (4 : Int) < 6)) (c_10 : ¬ (f6 (24 + (4 : Int))) = 6) (c_12 : ¬ x2 = 0) (o_13 : (0 ≤ (5 : Int) ∧ (5 : Int) < 6)) (c_15 : ¬ (f6 (24 + (5 : Int))) = 20) : (k7 = s.1 7 ∧ k8 = s.1 8 ∧ k9 = s.1 9 ∧ k10 = s.1 10 ∧ k11 = s.1 11) ∧ (f6 = s.2 6 ∧ f7 = s.2 7 ∧ f8 = s.2 8 ∧ f9 = s.2 9 ∧ k21 = s.1 21) ∧ lnG (s.1 8) (s.1 11) (s.2 6 28) (s.2 6 29) k12 k13 (s.1 13) (s.1 9) x1 := by
  obtain ⟨p0, p1, p2, p3, p4, p5, p6, p7, p8⟩ := hp
  (try simp only [Int.add_zero, Int.reduceAdd, bI_0, bI_n, Classical.not_not, p3, true_and] at *)
  (try (have h2 := hI; clear hI; obtain ⟨⟨a1, a2, a3, a4, a5⟩, ⟨b1, b2, b3, b4, b5⟩, hJ⟩ := h2; subst a1 a2 a3 a4 a5 b1 b2 b3 b4 b5))
  (try (have h4 := hJ; obtain ⟨⟨d1, d2⟩, ⟨d3, d4⟩, hd⟩ := h4; clear hJ; subst d1 d2))
  (try simp only [Int.reduceEq, ↓reduceIte] at *)
  (try (have h3 := hJ; clear hJ; obtain ⟨hd, hg⟩ := h3))
  (try have g := hg.resolve_right (fun h => h.1 (by assumption)))
  (try have g := hg.resolve_left (fun h => absurd h.1 (by assumption)))
  (try (have c0 : k12 = 0 := c_1; subst c0))
  (try (have y := g.2.2.resolve_left (fun h => by omega); clear g hg; try clear o_22; try clear o_36; try clear o_57))
  (try (have y := g.2.2.resolve_right (fun h => by omega); clear g hg; try clear o_22; try clear o_36; try clear o_57))
  (try have ex := enx_b (t := s.2 4) p1)
  (try have q181 := q_18.1.1)
  (try have q311 := q_31.1.1)
  (try have q541 := q_54.1)
  (try have q661 := q_66.1.1)
  (try simp (disch := omega) only [i32_id] at *)
  (try unfold lex3)
  (try simp only [bI_0, bI_n, Classical.not_not] at *)
  (try simp (disch := omega) only [i32_id] at *)
  first | done | omega | ((repeat' (with_reducible apply And.intro)) <;> first | (show lnQ _ _ _ _ _ _ _ _ _ _ _ _ _ _ _ _; have hx : x1 = 0 := c_4; exact lnQ_n y.2.1 y.2.2 rfl q_18 (by rw [rep_h (i := 5) (by decide), rep_t (i := s.2 6 29) rfl]; rfl)) | (show lnQ _ _ _ _ _ _ _ _ _ _ _ _ _ _ _ _; have hx : ¬ x1 = 0 := c_4; exact lnQ_s1 y.2.1 y.2.2 q_31 (by assumption)) | (show lnQ _ _ _ _ _ _ _ _ _ _ _ _ _ _ _ _; have hx : ¬ x1 = 0 := c_4; exact lnQ_s2 y.2.1 y.2.2 q_31 (by assumption) q_54 (by assumption)) | (show lnQ _ _ _ _ _ _ _ _ _ _ _ _ _ _ _ _; have hx : ¬ x1 = 0 := c_4; exact lnQ_s3 y.2.1 y.2.2 q_31 (by assumption) q_54 (by assumption) q_66 (fun w v w2 v2 hx => by rw [rep_h (i := 4) (by decide), hx, rep_s (i := 4 * s.2 6 28 + 3) (by omega), rep_s (i := 4 * s.2 6 28 + 2) (by omega), rep_s (i := 4 * s.2 6 28 + 1) (by omega), rep_s (i := 4 * s.2 6 28) (by omega)]; rfl)) | (show lnQ _ _ _ _ _ _ _ _ _ _ _ _ _ _ _ _; exact lnQ_bad ⟨by omega, by omega⟩ hd g.2.2 g.2.1) | (exact lnG_a hd d3 (by assumption) (by assumption)) | (exact lnG_b hd d3 (by assumption) (by assumption)) | (exact lnG_c hd d4 (by assumption) (by assumption)) | (exact lnG_d hd d4 (by assumption) (by assumption) (by assumption)) | (exact lnG_e hd d3 d4 (by assumption) (by assumption)) | (exact lnG_x d3 d4 (by assumption) (by assumption)) | assumption | rfl | omega | (show lnQ _ _ _ _ _ _ _ _ _ _ _ _ _ _ _ _; exact lnQ_do q_16.1 (by omega) (by omega)) | (intro z hz; exact q_16.2.1 z (by omega)) | (exact q_16.2.2.1) | (intro z hz; rw [upI_n _ _ (by omega)]) | (intro z hz; rfl) | (intro z hz; rw [q_66.2.2.1 z (by omega) (by omega), q_31.2.2.1 z (by omega) (by omega)]) | (intro z hz; exact q_31.2.2.1 z (by omega) (by omega)) | grind [upI])
theorem vX3_line_15 (s : MS) (hp : 0 ≤ (s.1 7) ∧ (s.1 7) ≤ (s.1 6) ∧ (s.1 6) ≤ 800 ∧ (s.1 12) = 0 ∧ (0 ≤ (s.2 6) 24 ∧ (s.2 6) 24 ≤ 100) ∧ ((s.1 21) = 0 → (s.2 6) 27 = 0) ∧ (0 ≤ (s.2 6) 28 ∧ (s.2 6) 28 ≤ 6) ∧ (0 ≤ (s.2 6) 29 ∧ (s.2 6) 29 ≤ 20) ∧ (0 ≤ (s.2 6) 26 ∧ (s.2 6) 26 ≤ 200000)) (x1 : Int) (x2 : Int) (f6 : Int → Int) (f7 : Int → Int) (f8 : Int → Int) (f9 : Int → Int) (k7 : Int) (k8 : Int) (k9 : Int) (k10 : Int) (k11 : Int) (k12 : Int) (k13 : Int) (k21 : Int) (hI : (k7 = s.1 7 ∧ k8 = s.1 8 ∧ k9 = s.1 9 ∧ k10 = s.1 10 ∧ k11 = s.1 11) ∧ (f6 = s.2 6 ∧ f7 = s.2 7 ∧ f8 = s.2 8 ∧ f9 = s.2 9 ∧ k21 = s.1 21) ∧ (k12 = 0 ∧ k13 = s.1 13) ∧ (x1 = bI (s.1 8 = 1 ∧ s.1 11 = 382984) ∧ x2 = bI (s.1 8 = 1 ∧ s.1 11 = 212302449)) ∧ ¬ (s.1 8 = 1 ∧ s.1 11 = 2427955)) (c_1 : ¬ x1 = 0) (c_2 : ¬ x1 = 0) (o_8 : (0 ≤ (4 : Int) ∧ (4 : Int) < 6)) (c_10 : ¬ (f6 (24 + (4 : Int))) = 6) (c_12 : ¬ x2 = 0) (o_13 : (0 ≤ (5 : Int) ∧ (5 : Int) < 6)) (c_15 : ¬ (f6 (24 + (5 : Int))) = 20) : lex3 0 0 0 0 0 1 := by
  obtain ⟨p0, p1, p2, p3, p4, p5, p6, p7, p8⟩ := hp
  (try simp only [Int.add_zero, Int.reduceAdd, bI_0, bI_n, Classical.not_not, p3, true_and] at *)
  (try (have h2 := hI; clear hI; obtain ⟨⟨a1, a2, a3, a4, a5⟩, ⟨b1, b2, b3, b4, b5⟩, hJ⟩ := h2; subst a1 a2 a3 a4 a5 b1 b2 b3 b4 b5))
  (try (have h4 := hJ; obtain ⟨⟨d1, d2⟩, ⟨d3, d4⟩, hd⟩ := h4; clear hJ; subst d1 d2))
  (try simp only [Int.reduceEq, ↓reduceIte] at *)
  (try (have h3 := hJ; clear hJ; obtain ⟨hd, hg⟩ := h3))
  (try have g := hg.resolve_right (fun h => h.1 (by assumption)))
  (try have g := hg.resolve_left (fun h => absurd h.1 (by assumption)))
  (try (have c0 : k12 = 0 := c_1; subst c0))
  (try (have y := g.2.2.resolve_left (fun h => by omega); clear g hg; try clear o_22; try clear o_36; try clear o_57))
  (try (have y := g.2.2.resolve_right (fun h => by omega); clear g hg; try clear o_22; try clear o_36; try clear o_57))
  (try have ex := enx_b (t := s.2 4) p1)
  (try have q181 := q_18.1.1)
  (try have q311 := q_31.1.1)
  (try have q541 := q_54.1)
  (try have q661 := q_66.1.1)
  (try simp (disch := omega) only [i32_id] at *)
  (try unfold lex3)
  (try simp only [bI_0, bI_n, Classical.not_not] at *)
  (try simp (disch := omega) only [i32_id] at *)
  first | done | omega | ((repeat' (with_reducible apply And.intro)) <;> first | (show lnQ _ _ _ _ _ _ _ _ _ _ _ _ _ _ _ _; have hx : x1 = 0 := c_4; exact lnQ_n y.2.1 y.2.2 rfl q_18 (by rw [rep_h (i := 5) (by decide), rep_t (i := s.2 6 29) rfl]; rfl)) | (show lnQ _ _ _ _ _ _ _ _ _ _ _ _ _ _ _ _; have hx : ¬ x1 = 0 := c_4; exact lnQ_s1 y.2.1 y.2.2 q_31 (by assumption)) | (show lnQ _ _ _ _ _ _ _ _ _ _ _ _ _ _ _ _; have hx : ¬ x1 = 0 := c_4; exact lnQ_s2 y.2.1 y.2.2 q_31 (by assumption) q_54 (by assumption)) | (show lnQ _ _ _ _ _ _ _ _ _ _ _ _ _ _ _ _; have hx : ¬ x1 = 0 := c_4; exact lnQ_s3 y.2.1 y.2.2 q_31 (by assumption) q_54 (by assumption) q_66 (fun w v w2 v2 hx => by rw [rep_h (i := 4) (by decide), hx, rep_s (i := 4 * s.2 6 28 + 3) (by omega), rep_s (i := 4 * s.2 6 28 + 2) (by omega), rep_s (i := 4 * s.2 6 28 + 1) (by omega), rep_s (i := 4 * s.2 6 28) (by omega)]; rfl)) | (show lnQ _ _ _ _ _ _ _ _ _ _ _ _ _ _ _ _; exact lnQ_bad ⟨by omega, by omega⟩ hd g.2.2 g.2.1) | (exact lnG_a hd d3 (by assumption) (by assumption)) | (exact lnG_b hd d3 (by assumption) (by assumption)) | (exact lnG_c hd d4 (by assumption) (by assumption)) | (exact lnG_d hd d4 (by assumption) (by assumption) (by assumption)) | (exact lnG_e hd d3 d4 (by assumption) (by assumption)) | (exact lnG_x d3 d4 (by assumption) (by assumption)) | assumption | rfl | omega | (show lnQ _ _ _ _ _ _ _ _ _ _ _ _ _ _ _ _; exact lnQ_do q_16.1 (by omega) (by omega)) | (intro z hz; exact q_16.2.1 z (by omega)) | (exact q_16.2.2.1) | (intro z hz; rw [upI_n _ _ (by omega)]) | (intro z hz; rfl) | (intro z hz; rw [q_66.2.2.1 z (by omega) (by omega), q_31.2.2.1 z (by omega) (by omega)]) | (intro z hz; exact q_31.2.2.1 z (by omega) (by omega)) | grind [upI])
theorem vX3_line_16 (s : MS) (hp : 0 ≤ (s.1 7) ∧ (s.1 7) ≤ (s.1 6) ∧ (s.1 6) ≤ 800 ∧ (s.1 12) = 0 ∧ (0 ≤ (s.2 6) 24 ∧ (s.2 6) 24 ≤ 100) ∧ ((s.1 21) = 0 → (s.2 6) 27 = 0) ∧ (0 ≤ (s.2 6) 28 ∧ (s.2 6) 28 ≤ 6) ∧ (0 ≤ (s.2 6) 29 ∧ (s.2 6) 29 ≤ 20) ∧ (0 ≤ (s.2 6) 26 ∧ (s.2 6) 26 ≤ 200000)) (x1 : Int) (x2 : Int) (f6 : Int → Int) (f7 : Int → Int) (f8 : Int → Int) (f9 : Int → Int) (k7 : Int) (k8 : Int) (k9 : Int) (k10 : Int) (k11 : Int) (k12 : Int) (k13 : Int) (k21 : Int) (hI : (k7 = s.1 7 ∧ k8 = s.1 8 ∧ k9 = s.1 9 ∧ k10 = s.1 10 ∧ k11 = s.1 11) ∧ (f6 = s.2 6 ∧ f7 = s.2 7 ∧ f8 = s.2 8 ∧ f9 = s.2 9 ∧ k21 = s.1 21) ∧ (k12 = 0 ∧ k13 = s.1 13) ∧ (x1 = bI (s.1 8 = 1 ∧ s.1 11 = 382984) ∧ x2 = bI (s.1 8 = 1 ∧ s.1 11 = 212302449)) ∧ ¬ (s.1 8 = 1 ∧ s.1 11 = 2427955)) (c_1 : ¬ x1 = 0) (c_2 : ¬ x1 = 0) (o_8 : (0 ≤ (4 : Int) ∧ (4 : Int) < 6)) (c_10 : ¬ (f6 (24 + (4 : Int))) = 6) (c_12 : ¬ x2 = 0) (o_13 : (0 ≤ (5 : Int) ∧ (5 : Int) < 6)) (c_15 : (f6 (24 + (5 : Int))) = 20) : (k7 = s.1 7 ∧ k8 = s.1 8 ∧ k9 = s.1 9 ∧ k10 = s.1 10 ∧ k11 = s.1 11) ∧ (f6 = s.2 6 ∧ f7 = s.2 7 ∧ f8 = s.2 8 ∧ f9 = s.2 9 ∧ k21 = s.1 21) ∧ lnG (s.1 8) (s.1 11) (s.2 6 28) (s.2 6 29) (if k12 = 0 then (3 : Int) else k12) (if k12 = 0 then k9 else k13) (s.1 13) (s.1 9) x1 := by
  obtain ⟨p0, p1, p2, p3, p4, p5, p6, p7, p8⟩ := hp
  (try simp only [Int.add_zero, Int.reduceAdd, bI_0, bI_n, Classical.not_not, p3, true_and] at *)
  (try (have h2 := hI; clear hI; obtain ⟨⟨a1, a2, a3, a4, a5⟩, ⟨b1, b2, b3, b4, b5⟩, hJ⟩ := h2; subst a1 a2 a3 a4 a5 b1 b2 b3 b4 b5))
  (try (have h4 := hJ; obtain ⟨⟨d1, d2⟩, ⟨d3, d4⟩, hd⟩ := h4; clear hJ; subst d1 d2))
  (try simp only [Int.reduceEq, ↓reduceIte] at *)
  (try (have h3 := hJ; clear hJ; obtain ⟨hd, hg⟩ := h3))
  (try have g := hg.resolve_right (fun h => h.1 (by assumption)))
  (try have g := hg.resolve_left (fun h => absurd h.1 (by assumption)))
  (try (have c0 : k12 = 0 := c_1; subst c0))
  (try (have y := g.2.2.resolve_left (fun h => by omega); clear g hg; try clear o_22; try clear o_36; try clear o_57))
  (try (have y := g.2.2.resolve_right (fun h => by omega); clear g hg; try clear o_22; try clear o_36; try clear o_57))
  (try have ex := enx_b (t := s.2 4) p1)
  (try have q181 := q_18.1.1)
  (try have q311 := q_31.1.1)
  (try have q541 := q_54.1)
  (try have q661 := q_66.1.1)
  (try simp (disch := omega) only [i32_id] at *)
  (try unfold lex3)
  (try simp only [bI_0, bI_n, Classical.not_not] at *)
  (try simp (disch := omega) only [i32_id] at *)
  first | done | omega | ((repeat' (with_reducible apply And.intro)) <;> first | (show lnQ _ _ _ _ _ _ _ _ _ _ _ _ _ _ _ _; have hx : x1 = 0 := c_4; exact lnQ_n y.2.1 y.2.2 rfl q_18 (by rw [rep_h (i := 5) (by decide), rep_t (i := s.2 6 29) rfl]; rfl)) | (show lnQ _ _ _ _ _ _ _ _ _ _ _ _ _ _ _ _; have hx : ¬ x1 = 0 := c_4; exact lnQ_s1 y.2.1 y.2.2 q_31 (by assumption)) | (show lnQ _ _ _ _ _ _ _ _ _ _ _ _ _ _ _ _; have hx : ¬ x1 = 0 := c_4; exact lnQ_s2 y.2.1 y.2.2 q_31 (by assumption) q_54 (by assumption)) | (show lnQ _ _ _ _ _ _ _ _ _ _ _ _ _ _ _ _; have hx : ¬ x1 = 0 := c_4; exact lnQ_s3 y.2.1 y.2.2 q_31 (by assumption) q_54 (by assumption) q_66 (fun w v w2 v2 hx => by rw [rep_h (i := 4) (by decide), hx, rep_s (i := 4 * s.2 6 28 + 3) (by omega), rep_s (i := 4 * s.2 6 28 + 2) (by omega), rep_s (i := 4 * s.2 6 28 + 1) (by omega), rep_s (i := 4 * s.2 6 28) (by omega)]; rfl)) | (show lnQ _ _ _ _ _ _ _ _ _ _ _ _ _ _ _ _; exact lnQ_bad ⟨by omega, by omega⟩ hd g.2.2 g.2.1) | (exact lnG_a hd d3 (by assumption) (by assumption)) | (exact lnG_b hd d3 (by assumption) (by assumption)) | (exact lnG_c hd d4 (by assumption) (by assumption)) | (exact lnG_d hd d4 (by assumption) (by assumption) (by assumption)) | (exact lnG_e hd d3 d4 (by assumption) (by assumption)) | (exact lnG_x d3 d4 (by assumption) (by assumption)) | assumption | rfl | omega | (show lnQ _ _ _ _ _ _ _ _ _ _ _ _ _ _ _ _; exact lnQ_do q_16.1 (by omega) (by omega)) | (intro z hz; exact q_16.2.1 z (by omega)) | (exact q_16.2.2.1) | (intro z hz; rw [upI_n _ _ (by omega)]) | (intro z hz; rfl) | (intro z hz; rw [q_66.2.2.1 z (by omega) (by omega), q_31.2.2.1 z (by omega) (by omega)]) | (intro z hz; exact q_31.2.2.1 z (by omega) (by omega)) | grind [upI])
theorem vX3_line_17 (s : MS) (hp : 0 ≤ (s.1 7) ∧ (s.1 7) ≤ (s.1 6) ∧ (s.1 6) ≤ 800 ∧ (s.1 12) = 0 ∧ (0 ≤ (s.2 6) 24 ∧ (s.2 6) 24 ≤ 100) ∧ ((s.1 21) = 0 → (s.2 6) 27 = 0) ∧ (0 ≤ (s.2 6) 28 ∧ (s.2 6) 28 ≤ 6) ∧ (0 ≤ (s.2 6) 29 ∧ (s.2 6) 29 ≤ 20) ∧ (0 ≤ (s.2 6) 26 ∧ (s.2 6) 26 ≤ 200000)) (x1 : Int) (x2 : Int) (f6 : Int → Int) (f7 : Int → Int) (f8 : Int → Int) (f9 : Int → Int) (k7 : Int) (k8 : Int) (k9 : Int) (k10 : Int) (k11 : Int) (k12 : Int) (k13 : Int) (k21 : Int) (hI : (k7 = s.1 7 ∧ k8 = s.1 8 ∧ k9 = s.1 9 ∧ k10 = s.1 10 ∧ k11 = s.1 11) ∧ (f6 = s.2 6 ∧ f7 = s.2 7 ∧ f8 = s.2 8 ∧ f9 = s.2 9 ∧ k21 = s.1 21) ∧ (k12 = 0 ∧ k13 = s.1 13) ∧ (x1 = bI (s.1 8 = 1 ∧ s.1 11 = 382984) ∧ x2 = bI (s.1 8 = 1 ∧ s.1 11 = 212302449)) ∧ ¬ (s.1 8 = 1 ∧ s.1 11 = 2427955)) (c_1 : ¬ x1 = 0) (c_2 : ¬ x1 = 0) (o_8 : (0 ≤ (4 : Int) ∧ (4 : Int) < 6)) (c_10 : ¬ (f6 (24 + (4 : Int))) = 6) (c_12 : ¬ x2 = 0) (o_13 : (0 ≤ (5 : Int) ∧ (5 : Int) < 6)) (c_15 : (f6 (24 + (5 : Int))) = 20) : lex3 0 0 0 0 0 1 := by
  obtain ⟨p0, p1, p2, p3, p4, p5, p6, p7, p8⟩ := hp
  (try simp only [Int.add_zero, Int.reduceAdd, bI_0, bI_n, Classical.not_not, p3, true_and] at *)
  (try (have h2 := hI; clear hI; obtain ⟨⟨a1, a2, a3, a4, a5⟩, ⟨b1, b2, b3, b4, b5⟩, hJ⟩ := h2; subst a1 a2 a3 a4 a5 b1 b2 b3 b4 b5))
  (try (have h4 := hJ; obtain ⟨⟨d1, d2⟩, ⟨d3, d4⟩, hd⟩ := h4; clear hJ; subst d1 d2))
  (try simp only [Int.reduceEq, ↓reduceIte] at *)
  (try (have h3 := hJ; clear hJ; obtain ⟨hd, hg⟩ := h3))
  (try have g := hg.resolve_right (fun h => h.1 (by assumption)))
  (try have g := hg.resolve_left (fun h => absurd h.1 (by assumption)))
  (try (have c0 : k12 = 0 := c_1; subst c0))
  (try (have y := g.2.2.resolve_left (fun h => by omega); clear g hg; try clear o_22; try clear o_36; try clear o_57))
  (try (have y := g.2.2.resolve_right (fun h => by omega); clear g hg; try clear o_22; try clear o_36; try clear o_57))
  (try have ex := enx_b (t := s.2 4) p1)
  (try have q181 := q_18.1.1)
  (try have q311 := q_31.1.1)
  (try have q541 := q_54.1)
  (try have q661 := q_66.1.1)
  (try simp (disch := omega) only [i32_id] at *)
  (try unfold lex3)
  (try simp only [bI_0, bI_n, Classical.not_not] at *)
  (try simp (disch := omega) only [i32_id] at *)
  first | done | omega | ((repeat' (with_reducible apply And.intro)) <;> first | (show lnQ _ _ _ _ _ _ _ _ _ _ _ _ _ _ _ _; have hx : x1 = 0 := c_4; exact lnQ_n y.2.1 y.2.2 rfl q_18 (by rw [rep_h (i := 5) (by decide), rep_t (i := s.2 6 29) rfl]; rfl)) | (show lnQ _ _ _ _ _ _ _ _ _ _ _ _ _ _ _ _; have hx : ¬ x1 = 0 := c_4; exact lnQ_s1 y.2.1 y.2.2 q_31 (by assumption)) | (show lnQ _ _ _ _ _ _ _ _ _ _ _ _ _ _ _ _; have hx : ¬ x1 = 0 := c_4; exact lnQ_s2 y.2.1 y.2.2 q_31 (by assumption) q_54 (by assumption)) | (show lnQ _ _ _ _ _ _ _ _ _ _ _ _ _ _ _ _; have hx : ¬ x1 = 0 := c_4; exact lnQ_s3 y.2.1 y.2.2 q_31 (by assumption) q_54 (by assumption) q_66 (fun w v w2 v2 hx => by rw [rep_h (i := 4) (by decide), hx, rep_s (i := 4 * s.2 6 28 + 3) (by omega), rep_s (i := 4 * s.2 6 28 + 2) (by omega), rep_s (i := 4 * s.2 6 28 + 1) (by omega), rep_s (i := 4 * s.2 6 28) (by omega)]; rfl)) | (show lnQ _ _ _ _ _ _ _ _ _ _ _ _ _ _ _ _; exact lnQ_bad ⟨by omega, by omega⟩ hd g.2.2 g.2.1) | (exact lnG_a hd d3 (by assumption) (by assumption)) | (exact lnG_b hd d3 (by assumption) (by assumption)) | (exact lnG_c hd d4 (by assumption) (by assumption)) | (exact lnG_d hd d4 (by assumption) (by assumption) (by assumption)) | (exact lnG_e hd d3 d4 (by assumption) (by assumption)) | (exact lnG_x d3 d4 (by assumption) (by assumption)) | assumption | rfl | omega | (show lnQ _ _ _ _ _ _ _ _ _ _ _ _ _ _ _ _; exact lnQ_do q_16.1 (by omega) (by omega)) | (intro z hz; exact q_16.2.1 z (by omega)) | (exact q_16.2.2.1) | (intro z hz; rw [upI_n _ _ (by omega)]) | (intro z hz; rfl) | (intro z hz; rw [q_66.2.2.1 z (by omega) (by omega), q_31.2.2.1 z (by omega) (by omega)]) | (intro z hz; exact q_31.2.2.1 z (by omega) (by omega)) | grind [upI])
theorem vX3_line_18 (s : MS) (hp : 0 ≤ (s.1 7) ∧ (s.1 7) ≤ (s.1 6) ∧ (s.1 6) ≤ 800 ∧ (s.1 12) = 0 ∧ (0 ≤ (s.2 6) 24 ∧ (s.2 6) 24 ≤ 100) ∧ ((s.1 21) = 0 → (s.2 6) 27 = 0) ∧ (0 ≤ (s.2 6) 28 ∧ (s.2 6) 28 ≤ 6) ∧ (0 ≤ (s.2 6) 29 ∧ (s.2 6) 29 ≤ 20) ∧ (0 ≤ (s.2 6) 26 ∧ (s.2 6) 26 ≤ 200000)) (x1 : Int) (x2 : Int) (f6 : Int → Int) (f7 : Int → Int) (f8 : Int → Int) (f9 : Int → Int) (k7 : Int) (k8 : Int) (k9 : Int) (k10 : Int) (k11 : Int) (k12 : Int) (k13 : Int) (k21 : Int) (hI : (k7 = s.1 7 ∧ k8 = s.1 8 ∧ k9 = s.1 9 ∧ k10 = s.1 10 ∧ k11 = s.1 11) ∧ (f6 = s.2 6 ∧ f7 = s.2 7 ∧ f8 = s.2 8 ∧ f9 = s.2 9 ∧ k21 = s.1 21) ∧ (k12 = 0 ∧ k13 = s.1 13) ∧ (x1 = bI (s.1 8 = 1 ∧ s.1 11 = 382984) ∧ x2 = bI (s.1 8 = 1 ∧ s.1 11 = 212302449)) ∧ ¬ (s.1 8 = 1 ∧ s.1 11 = 2427955)) (c_1 : x1 = 0) (c_17 : ¬ x2 = 0) (c_18 : x1 = 0) (c_19 : x2 = 0) : (k7 = s.1 7 ∧ k8 = s.1 8 ∧ k9 = s.1 9 ∧ k10 = s.1 10 ∧ k11 = s.1 11) ∧ (f6 = s.2 6 ∧ f7 = s.2 7 ∧ f8 = s.2 8 ∧ f9 = s.2 9 ∧ k21 = s.1 21) ∧ lnG (s.1 8) (s.1 11) (s.2 6 28) (s.2 6 29) k12 k13 (s.1 13) (s.1 9) x1 := by
  obtain ⟨p0, p1, p2, p3, p4, p5, p6, p7, p8⟩ := hp
  (try simp only [Int.add_zero, Int.reduceAdd, bI_0, bI_n, Classical.not_not, p3, true_and] at *)
  (try (have h2 := hI; clear hI; obtain ⟨⟨a1, a2, a3, a4, a5⟩, ⟨b1, b2, b3, b4, b5⟩, hJ⟩ := h2; subst a1 a2 a3 a4 a5 b1 b2 b3 b4 b5))
  (try (have h4 := hJ; obtain ⟨⟨d1, d2⟩, ⟨d3, d4⟩, hd⟩ := h4; clear hJ; subst d1 d2))
  (try simp only [Int.reduceEq, ↓reduceIte] at *)
  (try (have h3 := hJ; clear hJ; obtain ⟨hd, hg⟩ := h3))
  (try have g := hg.resolve_right (fun h => h.1 (by assumption)))
  (try have g := hg.resolve_left (fun h => absurd h.1 (by assumption)))
  (try (have c0 : k12 = 0 := c_1; subst c0))
  (try (have y := g.2.2.resolve_left (fun h => by omega); clear g hg; try clear o_22; try clear o_36; try clear o_57))
  (try (have y := g.2.2.resolve_right (fun h => by omega); clear g hg; try clear o_22; try clear o_36; try clear o_57))
  (try have ex := enx_b (t := s.2 4) p1)
  (try have q181 := q_18.1.1)
  (try have q311 := q_31.1.1)
  (try have q541 := q_54.1)
  (try have q661 := q_66.1.1)
  (try simp (disch := omega) only [i32_id] at *)
  (try unfold lex3)
  (try simp only [bI_0, bI_n, Classical.not_not] at *)
  (try simp (disch := omega) only [i32_id] at *)
  first | done | omega | ((repeat' (with_reducible apply And.intro)) <;> first | (show lnQ _ _ _ _ _ _ _ _ _ _ _ _ _ _ _ _; have hx : x1 = 0 := c_4; exact lnQ_n y.2.1 y.2.2 rfl q_18 (by rw [rep_h (i := 5) (by decide), rep_t (i := s.2 6 29) rfl]; rfl)) | (show lnQ _ _ _ _ _ _ _ _ _ _ _ _ _ _ _ _; have hx : ¬ x1 = 0 := c_4; exact lnQ_s1 y.2.1 y.2.2 q_31 (by assumption)) | (show lnQ _ _ _ _ _ _ _ _ _ _ _ _ _ _ _ _; have hx : ¬ x1 = 0 := c_4; exact lnQ_s2 y.2.1 y.2.2 q_31 (by assumption) q_54 (by assumption)) | (show lnQ _ _ _ _ _ _ _ _ _ _ _ _ _ _ _ _; have hx : ¬ x1 = 0 := c_4; exact lnQ_s3 y.2.1 y.2.2 q_31 (by assumption) q_54 (by assumption) q_66 (fun w v w2 v2 hx => by rw [rep_h (i := 4) (by decide), hx, rep_s (i := 4 * s.2 6 28 + 3) (by omega), rep_s (i := 4 * s.2 6 28 + 2) (by omega), rep_s (i := 4 * s.2 6 28 + 1) (by omega), rep_s (i := 4 * s.2 6 28) (by omega)]; rfl)) | (show lnQ _ _ _ _ _ _ _ _ _ _ _ _ _ _ _ _; exact lnQ_bad ⟨by omega, by omega⟩ hd g.2.2 g.2.1) | (exact lnG_a hd d3 (by assumption) (by assumption)) | (exact lnG_b hd d3 (by assumption) (by assumption)) | (exact lnG_c hd d4 (by assumption) (by assumption)) | (exact lnG_d hd d4 (by assumption) (by assumption) (by assumption)) | (exact lnG_e hd d3 d4 (by assumption) (by assumption)) | (exact lnG_x d3 d4 (by assumption) (by assumption)) | assumption | rfl | omega | (show lnQ _ _ _ _ _ _ _ _ _ _ _ _ _ _ _ _; exact lnQ_do q_16.1 (by omega) (by omega)) | (intro z hz; exact q_16.2.1 z (by omega)) | (exact q_16.2.2.1) | (intro z hz; rw [upI_n _ _ (by omega)]) | (intro z hz; rfl) | (intro z hz; rw [q_66.2.2.1 z (by omega) (by omega), q_31.2.2.1 z (by omega) (by omega)]) | (intro z hz; exact q_31.2.2.1 z (by omega) (by omega)) | grind [upI])
theorem vX3_line_19 (s : MS) (hp : 0 ≤ (s.1 7) ∧ (s.1 7) ≤ (s.1 6) ∧ (s.1 6) ≤ 800 ∧ (s.1 12) = 0 ∧ (0 ≤ (s.2 6) 24 ∧ (s.2 6) 24 ≤ 100) ∧ ((s.1 21) = 0 → (s.2 6) 27 = 0) ∧ (0 ≤ (s.2 6) 28 ∧ (s.2 6) 28 ≤ 6) ∧ (0 ≤ (s.2 6) 29 ∧ (s.2 6) 29 ≤ 20) ∧ (0 ≤ (s.2 6) 26 ∧ (s.2 6) 26 ≤ 200000)) (x1 : Int) (x2 : Int) (f6 : Int → Int) (f7 : Int → Int) (f8 : Int → Int) (f9 : Int → Int) (k7 : Int) (k8 : Int) (k9 : Int) (k10 : Int) (k11 : Int) (k12 : Int) (k13 : Int) (k21 : Int) (hI : (k7 = s.1 7 ∧ k8 = s.1 8 ∧ k9 = s.1 9 ∧ k10 = s.1 10 ∧ k11 = s.1 11) ∧ (f6 = s.2 6 ∧ f7 = s.2 7 ∧ f8 = s.2 8 ∧ f9 = s.2 9 ∧ k21 = s.1 21) ∧ (k12 = 0 ∧ k13 = s.1 13) ∧ (x1 = bI (s.1 8 = 1 ∧ s.1 11 = 382984) ∧ x2 = bI (s.1 8 = 1 ∧ s.1 11 = 212302449)) ∧ ¬ (s.1 8 = 1 ∧ s.1 11 = 2427955)) (c_1 : x1 = 0) (c_17 : ¬ x2 = 0) (c_18 : x1 = 0) (c_19 : x2 = 0) : lex3 0 0 0 0 0 1 := by
  obtain ⟨p0, p1, p2, p3, p4, p5, p6, p7, p8⟩ := hp
  (try simp only [Int.add_zero, Int.reduceAdd, bI_0, bI_n, Classical.not_not, p3, true_and] at *)
  (try (have h2 := hI; clear hI; obtain ⟨⟨a1, a2, a3, a4, a5⟩, ⟨b1, b2, b3, b4, b5⟩, hJ⟩ := h2; subst a1 a2 a3 a4 a5 b1 b2 b3 b4 b5))
  (try (have h4 := hJ; obtain ⟨⟨d1, d2⟩, ⟨d3, d4⟩, hd⟩ := h4; clear hJ; subst d1 d2))
  (try simp only [Int.reduceEq, ↓reduceIte] at *)
  (try (have h3 := hJ; clear hJ; obtain ⟨hd, hg⟩ := h3))
  (try have g := hg.resolve_right (fun h => h.1 (by assumption)))
  (try have g := hg.resolve_left (fun h => absurd h.1 (by assumption)))
  (try (have c0 : k12 = 0 := c_1; subst c0))
  (try (have y := g.2.2.resolve_left (fun h => by omega); clear g hg; try clear o_22; try clear o_36; try clear o_57))
  (try (have y := g.2.2.resolve_right (fun h => by omega); clear g hg; try clear o_22; try clear o_36; try clear o_57))
  (try have ex := enx_b (t := s.2 4) p1)
  (try have q181 := q_18.1.1)
  (try have q311 := q_31.1.1)
  (try have q541 := q_54.1)
  (try have q661 := q_66.1.1)
  (try simp (disch := omega) only [i32_id] at *)
  (try unfold lex3)
  (try simp only [bI_0, bI_n, Classical.not_not] at *)
  (try simp (disch := omega) only [i32_id] at *)
  first | done | omega | ((repeat' (with_reducible apply And.intro)) <;> first | (show lnQ _ _ _ _ _ _ _ _ _ _ _ _ _ _ _ _; have hx : x1 = 0 := c_4; exact lnQ_n y.2.1 y.2.2 rfl q_18 (by rw [rep_h (i := 5) (by decide), rep_t (i := s.2 6 29) rfl]; rfl)) | (show lnQ _ _ _ _ _ _ _ _ _ _ _ _ _ _ _ _; have hx : ¬ x1 = 0 := c_4; exact lnQ_s1 y.2.1 y.2.2 q_31 (by assumption)) | (show lnQ _ _ _ _ _ _ _ _ _ _ _ _ _ _ _ _; have hx : ¬ x1 = 0 := c_4; exact lnQ_s2 y.2.1 y.2.2 q_31 (by assumption) q_54 (by assumption)) | (show lnQ _ _ _ _ _ _ _ _ _ _ _ _ _ _ _ _; have hx : ¬ x1 = 0 := c_4; exact lnQ_s3 y.2.1 y.2.2 q_31 (by assumption) q_54 (by assumption) q_66 (fun w v w2 v2 hx => by rw [rep_h (i := 4) (by decide), hx, rep_s (i := 4 * s.2 6 28 + 3) (by omega), rep_s (i := 4 * s.2 6 28 + 2) (by omega), rep_s (i := 4 * s.2 6 28 + 1) (by omega), rep_s (i := 4 * s.2 6 28) (by omega)]; rfl)) | (show lnQ _ _ _ _ _ _ _ _ _ _ _ _ _ _ _ _; exact lnQ_bad ⟨by omega, by omega⟩ hd g.2.2 g.2.1) | (exact lnG_a hd d3 (by assumption) (by assumption)) | (exact lnG_b hd d3 (by assumption) (by assumption)) | (exact lnG_c hd d4 (by assumption) (by assumption)) | (exact lnG_d hd d4 (by assumption) (by assumption) (by assumption)) | (exact lnG_e hd d3 d4 (by assumption) (by assumption)) | (exact lnG_x d3 d4 (by assumption) (by assumption)) | assumption | rfl | omega | (show lnQ _ _ _ _ _ _ _ _ _ _ _ _ _ _ _ _; exact lnQ_do q_16.1 (by omega) (by omega)) | (intro z hz; exact q_16.2.1 z (by omega)) | (exact q_16.2.2.1) | (intro z hz; rw [upI_n _ _ (by omega)]) | (intro z hz; rfl) | (intro z hz; rw [q_66.2.2.1 z (by omega) (by omega), q_31.2.2.1 z (by omega) (by omega)]) | (intro z hz; exact q_31.2.2.1 z (by omega) (by omega)) | grind [upI])
theorem vX3_line_20 (s : MS) (hp : 0 ≤ (s.1 7) ∧ (s.1 7) ≤ (s.1 6) ∧ (s.1 6) ≤ 800 ∧ (s.1 12) = 0 ∧ (0 ≤ (s.2 6) 24 ∧ (s.2 6) 24 ≤ 100) ∧ ((s.1 21) = 0 → (s.2 6) 27 = 0) ∧ (0 ≤ (s.2 6) 28 ∧ (s.2 6) 28 ≤ 6) ∧ (0 ≤ (s.2 6) 29 ∧ (s.2 6) 29 ≤ 20) ∧ (0 ≤ (s.2 6) 26 ∧ (s.2 6) 26 ≤ 200000)) (x1 : Int) (x2 : Int) (f6 : Int → Int) (f7 : Int → Int) (f8 : Int → Int) (f9 : Int → Int) (k7 : Int) (k8 : Int) (k9 : Int) (k10 : Int) (k11 : Int) (k12 : Int) (k13 : Int) (k21 : Int) (hI : (k7 = s.1 7 ∧ k8 = s.1 8 ∧ k9 = s.1 9 ∧ k10 = s.1 10 ∧ k11 = s.1 11) ∧ (f6 = s.2 6 ∧ f7 = s.2 7 ∧ f8 = s.2 8 ∧ f9 = s.2 9 ∧ k21 = s.1 21) ∧ (k12 = 0 ∧ k13 = s.1 13) ∧ (x1 = bI (s.1 8 = 1 ∧ s.1 11 = 382984) ∧ x2 = bI (s.1 8 = 1 ∧ s.1 11 = 212302449)) ∧ ¬ (s.1 8 = 1 ∧ s.1 11 = 2427955)) (c_1 : x1 = 0) (c_17 : ¬ x2 = 0) (c_18 : x1 = 0) (c_19 : ¬ x2 = 0) : (0 ≤ (5 : Int) ∧ (5 : Int) < 6) := by
  obtain ⟨p0, p1, p2, p3, p4, p5, p6, p7, p8⟩ := hp
  (try simp only [Int.add_zero, Int.reduceAdd, bI_0, bI_n, Classical.not_not, p3, true_and] at *)
  (try (have h2 := hI; clear hI; obtain ⟨⟨a1, a2, a3, a4, a5⟩, ⟨b1, b2, b3, b4, b5⟩, hJ⟩ := h2; subst a1 a2 a3 a4 a5 b1 b2 b3 b4 b5))
  (try (have h4 := hJ; obtain ⟨⟨d1, d2⟩, ⟨d3, d4⟩, hd⟩ := h4; clear hJ; subst d1 d2))
  (try simp only [Int.reduceEq, ↓reduceIte] at *)
  (try (have h3 := hJ; clear hJ; obtain ⟨hd, hg⟩ := h3))
  (try have g := hg.resolve_right (fun h => h.1 (by assumption)))
  (try have g := hg.resolve_left (fun h => absurd h.1 (by assumption)))
  (try (have c0 : k12 = 0 := c_1; subst c0))
  (try (have y := g.2.2.resolve_left (fun h => by omega); clear g hg; try clear o_22; try clear o_36; try clear o_57))
  (try (have y := g.2.2.resolve_right (fun h => by omega); clear g hg; try clear o_22; try clear o_36; try clear o_57))
  (try have ex := enx_b (t := s.2 4) p1)
  (try have q181 := q_18.1.1)
  (try have q311 := q_31.1.1)
  (try have q541 := q_54.1)
  (try have q661 := q_66.1.1)
  (try simp (disch := omega) only [i32_id] at *)
  (try unfold lex3)
  (try simp only [bI_0, bI_n, Classical.not_not] at *)
  (try simp (disch := omega) only [i32_id] at *)
  first | done | omega | ((repeat' (with_reducible apply And.intro)) <;> first | (show lnQ _ _ _ _ _ _ _ _ _ _ _ _ _ _ _ _; have hx : x1 = 0 := c_4; exact lnQ_n y.2.1 y.2.2 rfl q_18 (by rw [rep_h (i := 5) (by decide), rep_t (i := s.2 6 29) rfl]; rfl)) | (show lnQ _ _ _ _ _ _ _ _ _ _ _ _ _ _ _ _; have hx : ¬ x1 = 0 := c_4; exact lnQ_s1 y.2.1 y.2.2 q_31 (by assumption)) | (show lnQ _ _ _ _ _ _ _ _ _ _ _ _ _ _ _ _; have hx : ¬ x1 = 0 := c_4; exact lnQ_s2 y.2.1 y.2.2 q_31 (by assumption) q_54 (by assumption)) | (show lnQ _ _ _ _ _ _ _ _ _ _ _ _ _ _ _ _; have hx : ¬ x1 = 0 := c_4; exact lnQ_s3 y.2.1 y.2.2 q_31 (by assumption) q_54 (by assumption) q_66 (fun w v w2 v2 hx => by rw [rep_h (i := 4) (by decide), hx, rep_s (i := 4 * s.2 6 28 + 3) (by omega), rep_s (i := 4 * s.2 6 28 + 2) (by omega), rep_s (i := 4 * s.2 6 28 + 1) (by omega), rep_s (i := 4 * s.2 6 28) (by omega)]; rfl)) | (show lnQ _ _ _ _ _ _ _ _ _ _ _ _ _ _ _ _; exact lnQ_bad ⟨by omega, by omega⟩ hd g.2.2 g.2.1) | (exact lnG_a hd d3 (by assumption) (by assumption)) | (exact lnG_b hd d3 (by assumption) (by assumption)) | (exact lnG_c hd d4 (by assumption) (by assumption)) | (exact lnG_d hd d4 (by assumption) (by assumption) (by assumption)) | (exact lnG_e hd d3 d4 (by assumption) (by assumption)) | (exact lnG_x d3 d4 (by assumption) (by assumption)) | assumption | rfl | omega | (show lnQ _ _ _ _ _ _ _ _ _ _ _ _ _ _ _ _; exact lnQ_do q_16.1 (by omega) (by omega)) | (intro z hz; exact q_16.2.1 z (by omega)) | (exact q_16.2.2.1) | (intro z hz; rw [upI_n _ _ (by omega)]) | (intro z hz; rfl) | (intro z hz; rw [q_66.2.2.1 z (by omega) (by omega), q_31.2.2.1 z (by omega) (by omega)]) | (intro z hz; exact q_31.2.2.1 z (by omega) (by omega)) | grind [upI])
theorem vX3_line_21 (s : MS) (hp : 0 ≤ (s.1 7) ∧ (s.1 7) ≤ (s.1 6) ∧ (s.1 6) ≤ 800 ∧ (s.1 12) = 0 ∧ (0 ≤ (s.2 6) 24 ∧ (s.2 6) 24 ≤ 100) ∧ ((s.1 21) = 0 → (s.2 6) 27 = 0) ∧ (0 ≤ (s.2 6) 28 ∧ (s.2 6) 28 ≤ 6) ∧ (0 ≤ (s.2 6) 29 ∧ (s.2 6) 29 ≤ 20) ∧ (0 ≤ (s.2 6) 26 ∧ (s.2 6) 26 ≤ 200000)) (x1 : Int) (x2 : Int) (f6 : Int → Int) (f7 : Int → Int) (f8 : Int → Int) (f9 : Int → Int) (k7 : Int) (k8 : Int) (k9 : Int) (k10 : Int) (k11 : Int) (k12 : Int) (k13 : Int) (k21 : Int) (hI : (k7 = s.1 7 ∧ k8 = s.1 8 ∧ k9 = s.1 9 ∧ k10 = s.1 10 ∧ k11 = s.1 11) ∧ (f6 = s.2 6 ∧ f7 = s.2 7 ∧ f8 = s.2 8 ∧ f9 = s.2 9 ∧ k21 = s.1 21) ∧ (k12 = 0 ∧ k13 = s.1 13) ∧ (x1 = bI (s.1 8 = 1 ∧ s.1 11 = 382984) ∧ x2 = bI (s.1 8 = 1 ∧ s.1 11 = 212302449)) ∧ ¬ (s.1 8 = 1 ∧ s.1 11 = 2427955)) (c_1 : x1 = 0) (c_17 : ¬ x2 = 0) (c_18 : x1 = 0) (c_19 : ¬ x2 = 0) (o_20 : (0 ≤ (5 : Int) ∧ (5 : Int) < 6)) (c_22 : ¬ (f6 (24 + (5 : Int))) = 20) : (k7 = s.1 7 ∧ k8 = s.1 8 ∧ k9 = s.1 9 ∧ k10 = s.1 10 ∧ k11 = s.1 11) ∧ (f6 = s.2 6 ∧ f7 = s.2 7 ∧ f8 = s.2 8 ∧ f9 = s.2 9 ∧ k21 = s.1 21) ∧ lnG (s.1 8) (s.1 11) (s.2 6 28) (s.2 6 29) k12 k13 (s.1 13) (s.1 9) x1 := by
  obtain ⟨p0, p1, p2, p3, p4, p5, p6, p7, p8⟩ := hp
  (try simp only [Int.add_zero, Int.reduceAdd, bI_0, bI_n, Classical.not_not, p3, true_and] at *)
  (try (have h2 := hI; clear hI; obtain ⟨⟨a1, a2, a3, a4, a5⟩, ⟨b1, b2, b3, b4, b5⟩, hJ⟩ := h2; subst a1 a2 a3 a4 a5 b1 b2 b3 b4 b5))
  (try (have h4 := hJ; obtain ⟨⟨d1, d2⟩, ⟨d3, d4⟩, hd⟩ := h4; clear hJ; subst d1 d2))
  (try simp only [Int.reduceEq, ↓reduceIte] at *)
  (try (have h3 := hJ; clear hJ; obtain ⟨hd, hg⟩ := h3))
  (try have g := hg.resolve_right (fun h => h.1 (by assumption)))
  (try have g := hg.resolve_left (fun h => absurd h.1 (by assumption)))
  (try (have c0 : k12 = 0 := c_1; subst c0))
  (try (have y := g.2.2.resolve_left (fun h => by omega); clear g hg; try clear o_22; try clear o_36; try clear o_57))
  (try (have y := g.2.2.resolve_right (fun h => by omega); clear g hg; try clear o_22; try clear o_36; try clear o_57))
  (try have ex := enx_b (t := s.2 4) p1)
  (try have q181 := q_18.1.1)
  (try have q311 := q_31.1.1)
  (try have q541 := q_54.1)
  (try have q661 := q_66.1.1)
  (try simp (disch := omega) only [i32_id] at *)
  (try unfold lex3)
  (try simp only [bI_0, bI_n, Classical.not_not] at *)
  (try simp (disch := omega) only [i32_id] at *)
  first | done | omega | ((repeat' (with_reducible apply And.intro)) <;> first | (show lnQ _ _ _ _ _ _ _ _ _ _ _ _ _ _ _ _; have hx : x1 = 0 := c_4; exact lnQ_n y.2.1 y.2.2 rfl q_18 (by rw [rep_h (i := 5) (by decide), rep_t (i := s.2 6 29) rfl]; rfl)) | (show lnQ _ _ _ _ _ _ _ _ _ _ _ _ _ _ _ _; have hx : ¬ x1 = 0 := c_4; exact lnQ_s1 y.2.1 y.2.2 q_31 (by assumption)) | (show lnQ _ _ _ _ _ _ _ _ _ _ _ _ _ _ _ _; have hx : ¬ x1 = 0 := c_4; exact lnQ_s2 y.2.1 y.2.2 q_31 (by assumption) q_54 (by assumption)) | (show lnQ _ _ _ _ _ _ _ _ _ _ _ _ _ _ _ _; have hx : ¬ x1 = 0 := c_4; exact lnQ_s3 y.2.1 y.2.2 q_31 (by assumption) q_54 (by assumption) q_66 (fun w v w2 v2 hx => by rw [rep_h (i := 4) (by decide), hx, rep_s (i := 4 * s.2 6 28 + 3) (by omega), rep_s (i := 4 * s.2 6 28 + 2) (by omega), rep_s (i := 4 * s.2 6 28 + 1) (by omega), rep_s (i := 4 * s.2 6 28) (by omega)]; rfl)) | (show lnQ _ _ _ _ _ _ _ _ _ _ _ _ _ _ _ _; exact lnQ_bad ⟨by omega, by omega⟩ hd g.2.2 g.2.1) | (exact lnG_a hd d3 (by assumption) (by assumption)) | (exact lnG_b hd d3 (by assumption) (by assumption)) | (exact lnG_c hd d4 (by assumption) (by assumption)) | (exact lnG_d hd d4 (by assumption) (by assumption) (by assumption)) | (exact lnG_e hd d3 d4 (by assumption) (by assumption)) | (exact lnG_x d3 d4 (by assumption) (by assumption)) | assumption | rfl | omega | (show lnQ _ _ _ _ _ _ _ _ _ _ _ _ _ _ _ _; exact lnQ_do q_16.1 (by omega) (by omega)) | (intro z hz; exact q_16.2.1 z (by omega)) | (exact q_16.2.2.1) | (intro z hz; rw [upI_n _ _ (by omega)]) | (intro z hz; rfl) | (intro z hz; rw [q_66.2.2.1 z (by omega) (by omega), q_31.2.2.1 z (by omega) (by omega)]) | (intro z hz; exact q_31.2.2.1 z (by omega) (by omega)) | grind [upI])
theorem vX3_line_22 (s : MS) (hp : 0 ≤ (s.1 7) ∧ (s.1 7) ≤ (s.1 6) ∧ (s.1 6) ≤ 800 ∧ (s.1 12) = 0 ∧ (0 ≤ (s.2 6) 24 ∧ (s.2 6) 24 ≤ 100) ∧ ((s.1 21) = 0 → (s.2 6) 27 = 0) ∧ (0 ≤ (s.2 6) 28 ∧ (s.2 6) 28 ≤ 6) ∧ (0 ≤ (s.2 6) 29 ∧ (s.2 6) 29 ≤ 20) ∧ (0 ≤ (s.2 6) 26 ∧ (s.2 6) 26 ≤ 200000)) (x1 : Int) (x2 : Int) (f6 : Int → Int) (f7 : Int → Int) (f8 : Int → Int) (f9 : Int → Int) (k7 : Int) (k8 : Int) (k9 : Int) (k10 : Int) (k11 : Int) (k12 : Int) (k13 : Int) (k21 : Int) (hI : (k7 = s.1 7 ∧ k8 = s.1 8 ∧ k9 = s.1 9 ∧ k10 = s.1 10 ∧ k11 = s.1 11) ∧ (f6 = s.2 6 ∧ f7 = s.2 7 ∧ f8 = s.2 8 ∧ f9 = s.2 9 ∧ k21 = s.1 21) ∧ (k12 = 0 ∧ k13 = s.1 13) ∧ (x1 = bI (s.1 8 = 1 ∧ s.1 11 = 382984) ∧ x2 = bI (s.1 8 = 1 ∧ s.1 11 = 212302449)) ∧ ¬ (s.1 8 = 1 ∧ s.1 11 = 2427955)) (c_1 : x1 = 0) (c_17 : ¬ x2 = 0) (c_18 : x1 = 0) (c_19 : ¬ x2 = 0) (o_20 : (0 ≤ (5 : Int) ∧ (5 : Int) < 6)) (c_22 : ¬ (f6 (24 + (5 : Int))) = 20) : lex3 0 0 0 0 0 1 := by
  obtain ⟨p0, p1, p2, p3, p4, p5, p6, p7, p8⟩ := hp
  (try simp only [Int.add_zero, Int.reduceAdd, bI_0, bI_n, Classical.not_not, p3, true_and] at *)
  (try (have h2 := hI; clear hI; obtain ⟨⟨a1, a2, a3, a4, a5⟩, ⟨b1, b2, b3, b4, b5⟩, hJ⟩ := h2; subst a1 a2 a3 a4 a5 b1 b2 b3 b4 b5))
  (try (have h4 := hJ; obtain ⟨⟨d1, d2⟩, ⟨d3, d4⟩, hd⟩ := h4; clear hJ; subst d1 d2))
  (try simp only [Int.reduceEq, ↓reduceIte] at *)
  (try (have h3 := hJ; clear hJ; obtain ⟨hd, hg⟩ := h3))
  (try have g := hg.resolve_right (fun h => h.1 (by assumption)))
  (try have g := hg.resolve_left (fun h => absurd h.1 (by assumption)))
  (try (have c0 : k12 = 0 := c_1; subst c0))
  (try (have y := g.2.2.resolve_left (fun h => by omega); clear g hg; try clear o_22; try clear o_36; try clear o_57))
  (try (have y := g.2.2.resolve_right (fun h => by omega); clear g hg; try clear o_22; try clear o_36; try clear o_57))
  (try have ex := enx_b (t := s.2 4) p1)
  (try have q181 := q_18.1.1)
  (try have q311 := q_31.1.1)
  (try have q541 := q_54.1)
  (try have q661 := q_66.1.1)
  (try simp (disch := omega) only [i32_id] at *)
  (try unfold lex3)
  (try simp only [bI_0, bI_n, Classical.not_not] at *)
  (try simp (disch := omega) only [i32_id] at *)
  first | done | omega | ((repeat' (with_reducible apply And.intro)) <;> first | (show lnQ _ _ _ _ _ _ _ _ _ _ _ _ _ _ _ _; have hx : x1 = 0 := c_4; exact lnQ_n y.2.1 y.2.2 rfl q_18 (by rw [rep_h (i := 5) (by decide), rep_t (i := s.2 6 29) rfl]; rfl)) | (show lnQ _ _ _ _ _ _ _ _ _ _ _ _ _ _ _ _; have hx : ¬ x1 = 0 := c_4; exact lnQ_s1 y.2.1 y.2.2 q_31 (by assumption)) | (show lnQ _ _ _ _ _ _ _ _ _ _ _ _ _ _ _ _; have hx : ¬ x1 = 0 := c_4; exact lnQ_s2 y.2.1 y.2.2 q_31 (by assumption) q_54 (by assumption)) | (show lnQ _ _ _ _ _ _ _ _ _ _ _ _ _ _ _ _; have hx : ¬ x1 = 0 := c_4; exact lnQ_s3 y.2.1 y.2.2 q_31 (by assumption) q_54 (by assumption) q_66 (fun w v w2 v2 hx => by rw [rep_h (i := 4) (by decide), hx, rep_s (i := 4 * s.2 6 28 + 3) (by omega), rep_s (i := 4 * s.2 6 28 + 2) (by omega), rep_s (i := 4 * s.2 6 28 + 1) (by omega), rep_s (i := 4 * s.2 6 28) (by omega)]; rfl)) | (show lnQ _ _ _ _ _ _ _ _ _ _ _ _ _ _ _ _; exact lnQ_bad ⟨by omega, by omega⟩ hd g.2.2 g.2.1) | (exact lnG_a hd d3 (by assumption) (by assumption)) | (exact lnG_b hd d3 (by assumption) (by assumption)) | (exact lnG_c hd d4 (by assumption) (by assumption)) | (exact lnG_d hd d4 (by assumption) (by assumption) (by assumption)) | (exact lnG_e hd d3 d4 (by assumption) (by assumption)) | (exact lnG_x d3 d4 (by assumption) (by assumption)) | assumption | rfl | omega | (show lnQ _ _ _ _ _ _ _ _ _ _ _ _ _ _ _ _; exact lnQ_do q_16.1 (by omega) (by omega)) | (intro z hz; exact q_16.2.1 z (by omega)) | (exact q_16.2.2.1) | (intro z hz; rw [upI_n _ _ (by omega)]) | (intro z hz; rfl) | (intro z hz; rw [q_66.2.2.1 z (by omega) (by omega), q_31.2.2.1 z (by omega) (by omega)]) | (intro z hz; exact q_31.2.2.1 z (by omega) (by omega)) | grind [upI])
theorem vX3_line_23 (s : MS) (hp : 0 ≤ (s.1 7) ∧ (s.1 7) ≤ (s.1 6) ∧ (s.1 6) ≤ 800 ∧ (s.1 12) = 0 ∧ (0 ≤ (s.2 6) 24 ∧ (s.2 6) 24 ≤ 100) ∧ ((s.1 21) = 0 → (s.2 6) 27 = 0) ∧ (0 ≤ (s.2 6) 28 ∧ (s.2 6) 28 ≤ 6) ∧ (0 ≤ (s.2 6) 29 ∧ (s.2 6) 29 ≤ 20) ∧ (0 ≤ (s.2 6) 26 ∧ (s.2 6) 26 ≤ 200000)) (x1 : Int) (x2 : Int) (f6 : Int → Int) (f7 : Int → Int) (f8 : Int → Int) (f9 : Int → Int) (k7 : Int) (k8 : Int) (k9 : Int) (k10 : Int) (k11 : Int) (k12 : Int) (k13 : Int) (k21 : Int) (hI : (k7 = s.1 7 ∧ k8 = s.1 8 ∧ k9 = s.1 9 ∧ k10 = s.1 10 ∧ k11 = s.1 11) ∧ (f6 = s.2 6 ∧ f7 = s.2 7 ∧ f8 = s.2 8 ∧ f9 = s.2 9 ∧ k21 = s.1 21) ∧ (k12 = 0 ∧ k13 = s.1 13) ∧ (x1 = bI (s.1 8 = 1 ∧ s.1 11 = 382984) ∧ x2 = bI (s.1 8 = 1 ∧ s.1 11 = 212302449)) ∧ ¬ (s.1 8 = 1 ∧ s.1 11 = 2427955)) (c_1 : x1 = 0) (c_17 : ¬ x2 = 0) (c_18 : x1 = 0) (c_19 : ¬ x2 = 0) (o_20 : (0 ≤ (5 : Int) ∧ (5 : Int) < 6)) (c_22 : (f6 (24 + (5 : Int))) = 20) : (k7 = s.1 7 ∧ k8 = s.1 8 ∧ k9 = s.1 9 ∧ k10 = s.1 10 ∧ k11 = s.1 11) ∧ (f6 = s.2 6 ∧ f7 = s.2 7 ∧ f8 = s.2 8 ∧ f9 = s.2 9 ∧ k21 = s.1 21) ∧ lnG (s.1 8) (s.1 11) (s.2 6 28) (s.2 6 29) (if k12 = 0 then (3 : Int) else k12) (if k12 = 0 then k9 else k13) (s.1 13) (s.1 9) x1 := by
  obtain ⟨p0, p1, p2, p3, p4, p5, p6, p7, p8⟩ := hp
  (try simp only [Int.add_zero, Int.reduceAdd, bI_0, bI_n, Classical.not_not, p3, true_and] at *)
  (try (have h2 := hI; clear hI; obtain ⟨⟨a1, a2, a3, a4, a5⟩, ⟨b1, b2, b3, b4, b5⟩, hJ⟩ := h2; subst a1 a2 a3 a4 a5 b1 b2 b3 b4 b5))
  (try (have h4 := hJ; obtain ⟨⟨d1, d2⟩, ⟨d3, d4⟩, hd⟩ := h4; clear hJ; subst d1 d2))
  (try simp only [Int.reduceEq, ↓reduceIte] at *)
  (try (have h3 := hJ; clear hJ; obtain ⟨hd, hg⟩ := h3))
  (try have g := hg.resolve_right (fun h => h.1 (by assumption)))
  (try have g := hg.resolve_left (fun h => absurd h.1 (by assumption)))
  (try (have c0 : k12 = 0 := c_1; subst c0))
  (try (have y := g.2.2.resolve_left (fun h => by omega); clear g hg; try clear o_22; try clear o_36; try clear o_57))
  (try (have y := g.2.2.resolve_right (fun h => by omega); clear g hg; try clear o_22; try clear o_36; try clear o_57))
  (try have ex := enx_b (t := s.2 4) p1)
  (try have q181 := q_18.1.1)
  (try have q311 := q_31.1.1)
  (try have q541 := q_54.1)
  (try have q661 := q_66.1.1)
  (try simp (disch := omega) only [i32_id] at *)
  (try unfold lex3)
  (try simp only [bI_0, bI_n, Classical.not_not] at *)
  (try simp (disch := omega) only [i32_id] at *)
  first | done | omega | ((repeat' (with_reducible apply And.intro)) <;> first | (show lnQ _ _ _ _ _ _ _ _ _ _ _ _ _ _ _ _; have hx : x1 = 0 := c_4; exact lnQ_n y.2.1 y.2.2 rfl q_18 (by rw [rep_h (i := 5) (by decide), rep_t (i := s.2 6 29) rfl]; rfl)) | (show lnQ _ _ _ _ _ _ _ _ _ _ _ _ _ _ _ _; have hx : ¬ x1 = 0 := c_4; exact lnQ_s1 y.2.1 y.2.2 q_31 (by assumption)) | (show lnQ _ _ _ _ _ _ _ _ _ _ _ _ _ _ _ _; have hx : ¬ x1 = 0 := c_4; exact lnQ_s2 y.2.1 y.2.2 q_31 (by assumption) q_54 (by assumption)) | (show lnQ _ _ _ _ _ _ _ _ _ _ _ _ _ _ _ _; have hx : ¬ x1 = 0 := c_4; exact lnQ_s3 y.2.1 y.2.2 q_31 (by assumption) q_54 (by assumption) q_66 (fun w v w2 v2 hx => by rw [rep_h (i := 4) (by decide), hx, rep_s (i := 4 * s.2 6 28 + 3) (by omega), rep_s (i := 4 * s.2 6 28 + 2) (by omega), rep_s (i := 4 * s.2 6 28 + 1) (by omega), rep_s (i := 4 * s.2 6 28) (by omega)]; rfl)) | (show lnQ _ _ _ _ _ _ _ _ _ _ _ _ _ _ _ _; exact lnQ_bad ⟨by omega, by omega⟩ hd g.2.2 g.2.1) | (exact lnG_a hd d3 (by assumption) (by assumption)) | (exact lnG_b hd d3 (by assumption) (by assumption)) | (exact lnG_c hd d4 (by assumption) (by assumption)) | (exact lnG_d hd d4 (by assumption) (by assumption) (by assumption)) | (exact lnG_e hd d3 d4 (by assumption) (by assumption)) | (exact lnG_x d3 d4 (by assumption) (by assumption)) | assumption | rfl | omega | (show lnQ _ _ _ _ _ _ _ _ _ _ _ _ _ _ _ _; exact lnQ_do q_16.1 (by omega) (by omega)) | (intro z hz; exact q_16.2.1 z (by omega)) | (exact q_16.2.2.1) | (intro z hz; rw [upI_n _ _ (by omega)]) | (intro z hz; rfl) | (intro z hz; rw [q_66.2.2.1 z (by omega) (by omega), q_31.2.2.1 z (by omega) (by omega)]) | (intro z hz; exact q_31.2.2.1 z (by omega) (by omega)) | grind [upI])
theorem vX3_line_24 (s : MS) (hp : 0 ≤ (s.1 7) ∧ (s.1 7) ≤ (s.1 6) ∧ (s.1 6) ≤ 800 ∧ (s.1 12) = 0 ∧ (0 ≤ (s.2 6) 24 ∧ (s.2 6) 24 ≤ 100) ∧ ((s.1 21) = 0 → (s.2 6) 27 = 0) ∧ (0 ≤ (s.2 6) 28 ∧ (s.2 6) 28 ≤ 6) ∧ (0 ≤ (s.2 6) 29 ∧ (s.2 6) 29 ≤ 20) ∧ (0 ≤ (s.2 6) 26 ∧ (s.2 6) 26 ≤ 200000)) (x1 : Int) (x2 : Int) (f6 : Int → Int) (f7 : Int → Int) (f8 : Int → Int) (f9 : Int → Int) (k7 : Int) (k8 : Int) (k9 : Int) (k10 : Int) (k11 : Int) (k12 : Int) (k13 : Int) (k21 : Int) (hI : (k7 = s.1 7 ∧ k8 = s.1 8 ∧ k9 = s.1 9 ∧ k10 = s.1 10 ∧ k11 = s.1 11) ∧ (f6 = s.2 6 ∧ f7 = s.2 7 ∧ f8 = s.2 8 ∧ f9 = s.2 9 ∧ k21 = s.1 21) ∧ (k12 = 0 ∧ k13 = s.1 13) ∧ (x1 = bI (s.1 8 = 1 ∧ s.1 11 = 382984) ∧ x2 = bI (s.1 8 = 1 ∧ s.1 11 = 212302449)) ∧ ¬ (s.1 8 = 1 ∧ s.1 11 = 2427955)) (c_1 : x1 = 0) (c_17 : ¬ x2 = 0) (c_18 : x1 = 0) (c_19 : ¬ x2 = 0) (o_20 : (0 ≤ (5 : Int) ∧ (5 : Int) < 6)) (c_22 : (f6 (24 + (5 : Int))) = 20) : lex3 0 0 0 0 0 1 := by
  obtain ⟨p0, p1, p2, p3, p4, p5, p6, p7, p8⟩ := hp
  (try simp only [Int.add_zero, Int.reduceAdd, bI_0, bI_n, Classical.not_not, p3, true_and] at *)
  (try (have h2 := hI; clear hI; obtain ⟨⟨a1, a2, a3, a4, a5⟩, ⟨b1, b2, b3, b4, b5⟩, hJ⟩ := h2; subst a1 a2 a3 a4 a5 b1 b2 b3 b4 b5))
  (try (have h4 := hJ; obtain ⟨⟨d1, d2⟩, ⟨d3, d4⟩, hd⟩ := h4; clear hJ; subst d1 d2))
  (try simp only [Int.reduceEq, ↓reduceIte] at *)
  (try (have h3 := hJ; clear hJ; obtain ⟨hd, hg⟩ := h3))
  (try have g := hg.resolve_right (fun h => h.1 (by assumption)))
  (try have g := hg.resolve_left (fun h => absurd h.1 (by assumption)))
  (try (have c0 : k12 = 0 := c_1; subst c0))
  (try (have y := g.2.2.resolve_left (fun h => by omega); clear g hg; try clear o_22; try clear o_36; try clear o_57))
  (try (have y := g.2.2.resolve_right (fun h => by omega); clear g hg; try clear o_22; try clear o_36; try clear o_57))
  (try have ex := enx_b (t := s.2 4) p1)
  (try have q181 := q_18.1.1)
  (try have q311 := q_31.1.1)
  (try have q541 := q_54.1)
  (try have q661 := q_66.1.1)
  (try simp (disch := omega) only [i32_id] at *)
  (try unfold lex3)
  (try simp only [bI_0, bI_n, Classical.not_not] at *)
  (try simp (disch := omega) only [i32_id] at *)
  first | done | omega | ((repeat' (with_reducible apply And.intro)) <;> first | (show lnQ _ _ _ _ _ _ _ _ _ _ _ _ _ _ _ _; have hx : x1 = 0 := c_4; exact lnQ_n y.2.1 y.2.2 rfl q_18 (by rw [rep_h (i := 5) (by decide), rep_t (i := s.2 6 29) rfl]; rfl)) | (show lnQ _ _ _ _ _ _ _ _ _ _ _ _ _ _ _ _; have hx : ¬ x1 = 0 := c_4; exact lnQ_s1 y.2.1 y.2.2 q_31 (by assumption)) | (show lnQ _ _ _ _ _ _ _ _ _ _ _ _ _ _ _ _; have hx : ¬ x1 = 0 := c_4; exact lnQ_s2 y.2.1 y.2.2 q_31 (by assumption) q_54 (by assumption)) | (show lnQ _ _ _ _ _ _ _ _ _ _ _ _ _ _ _ _; have hx : ¬ x1 = 0 := c_4; exact lnQ_s3 y.2.1 y.2.2 q_31 (by assumption) q_54 (by assumption) q_66 (fun w v w2 v2 hx => by rw [rep_h (i := 4) (by decide), hx, rep_s (i := 4 * s.2 6 28 + 3) (by omega), rep_s (i := 4 * s.2 6 28 + 2) (by omega), rep_s (i := 4 * s.2 6 28 + 1) (by omega), rep_s (i := 4 * s.2 6 28) (by omega)]; rfl)) | (show lnQ _ _ _ _ _ _ _ _ _ _ _ _ _ _ _ _; exact lnQ_bad ⟨by omega, by omega⟩ hd g.2.2 g.2.1) | (exact lnG_a hd d3 (by assumption) (by assumption)) | (exact lnG_b hd d3 (by assumption) (by assumption)) | (exact lnG_c hd d4 (by assumption) (by assumption)) | (exact lnG_d hd d4 (by assumption) (by assumption) (by assumption)) | (exact lnG_e hd d3 d4 (by assumption) (by assumption)) | (exact lnG_x d3 d4 (by assumption) (by assumption)) | assumption | rfl | omega | (show lnQ _ _ _ _ _ _ _ _ _ _ _ _ _ _ _ _; exact lnQ_do q_16.1 (by omega) (by omega)) | (intro z hz; exact q_16.2.1 z (by omega)) | (exact q_16.2.2.1) | (intro z hz; rw [upI_n _ _ (by omega)]) | (intro z hz; rfl) | (intro z hz; rw [q_66.2.2.1 z (by omega) (by omega), q_31.2.2.1 z (by omega) (by omega)]) | (intro z hz; exact q_31.2.2.1 z (by omega) (by omega)) | grind [upI])
theorem vX3_line_25 (s : MS) (hp : 0 ≤ (s.1 7) ∧ (s.1 7) ≤ (s.1 6) ∧ (s.1 6) ≤ 800 ∧ (s.1 12) = 0 ∧ (0 ≤ (s.2 6) 24 ∧ (s.2 6) 24 ≤ 100) ∧ ((s.1 21) = 0 → (s.2 6) 27 = 0) ∧ (0 ≤ (s.2 6) 28 ∧ (s.2 6) 28 ≤ 6) ∧ (0 ≤ (s.2 6) 29 ∧ (s.2 6) 29 ≤ 20) ∧ (0 ≤ (s.2 6) 26 ∧ (s.2 6) 26 ≤ 200000)) (x1 : Int) (x2 : Int) (f6 : Int → Int) (f7 : Int → Int) (f8 : Int → Int) (f9 : Int → Int) (k7 : Int) (k8 : Int) (k9 : Int) (k10 : Int) (k11 : Int) (k12 : Int) (k13 : Int) (k21 : Int) (hI : (k7 = s.1 7 ∧ k8 = s.1 8 ∧ k9 = s.1 9 ∧ k10 = s.1 10 ∧ k11 = s.1 11) ∧ (f6 = s.2 6 ∧ f7 = s.2 7 ∧ f8 = s.2 8 ∧ f9 = s.2 9 ∧ k21 = s.1 21) ∧ (k12 = 0 ∧ k13 = s.1 13) ∧ (x1 = bI (s.1 8 = 1 ∧ s.1 11 = 382984) ∧ x2 = bI (s.1 8 = 1 ∧ s.1 11 = 212302449)) ∧ ¬ (s.1 8 = 1 ∧ s.1 11 = 2427955)) (c_1 : x1 = 0) (c_17 : ¬ x2 = 0) (c_18 : ¬ x1 = 0) : (0 ≤ (4 : Int) ∧ (4 : Int) < 6) := by
  obtain ⟨p0, p1, p2, p3, p4, p5, p6, p7, p8⟩ := hp
  (try simp only [Int.add_zero, Int.reduceAdd, bI_0, bI_n, Classical.not_not, p3, true_and] at *)
  (try (have h2 := hI; clear hI; obtain ⟨⟨a1, a2, a3, a4, a5⟩, ⟨b1, b2, b3, b4, b5⟩, hJ⟩ := h2; subst a1 a2 a3 a4 a5 b1 b2 b3 b4 b5))
  (try (have h4 := hJ; obtain ⟨⟨d1, d2⟩, ⟨d3, d4⟩, hd⟩ := h4; clear hJ; subst d1 d2))
  (try simp only [Int.reduceEq, ↓reduceIte] at *)
  (try (have h3 := hJ; clear hJ; obtain ⟨hd, hg⟩ := h3))
  (try have g := hg.resolve_right (fun h => h.1 (by assumption)))
  (try have g := hg.resolve_left (fun h => absurd h.1 (by assumption)))
  (try (have c0 : k12 = 0 := c_1; subst c0))
  (try (have y := g.2.2.resolve_left (fun h => by omega); clear g hg; try clear o_22; try clear o_36; try clear o_57))
  (try (have y := g.2.2.resolve_right (fun h => by omega); clear g hg; try clear o_22; try clear o_36; try clear o_57))
  (try have ex := enx_b (t := s.2 4) p1)
  (try have q181 := q_18.1.1)
  (try have q311 := q_31.1.1)
  (try have q541 := q_54.1)
  (try have q661 := q_66.1.1)
  (try simp (disch := omega) only [i32_id] at *)
  (try unfold lex3)
  (try simp only [bI_0, bI_n, Classical.not_not] at *)
  (try simp (disch := omega) only [i32_id] at *)
  first | done | omega | ((repeat' (with_reducible apply And.intro)) <;> first | (show lnQ _ _ _ _ _ _ _ _ _ _ _ _ _ _ _ _; have hx : x1 = 0 := c_4; exact lnQ_n y.2.1 y.2.2 rfl q_18 (by rw [rep_h (i := 5) (by decide), rep_t (i := s.2 6 29) rfl]; rfl)) | (show lnQ _ _ _ _ _ _ _ _ _ _ _ _ _ _ _ _; have hx : ¬ x1 = 0 := c_4; exact lnQ_s1 y.2.1 y.2.2 q_31 (by assumption)) | (show lnQ _ _ _ _ _ _ _ _ _ _ _ _ _ _ _ _; have hx : ¬ x1 = 0 := c_4; exact lnQ_s2 y.2.1 y.2.2 q_31 (by assumption) q_54 (by assumption)) | (show lnQ _ _ _ _ _ _ _ _ _ _ _ _ _ _ _ _; have hx : ¬ x1 = 0 := c_4; exact lnQ_s3 y.2.1 y.2.2 q_31 (by assumption) q_54 (by assumption) q_66 (fun w v w2 v2 hx => by rw [rep_h (i := 4) (by decide), hx, rep_s (i := 4 * s.2 6 28 + 3) (by omega), rep_s (i := 4 * s.2 6 28 + 2) (by omega), rep_s (i := 4 * s.2 6 28 + 1) (by omega), rep_s (i := 4 * s.2 6 28) (by omega)]; rfl)) | (show lnQ _ _ _ _ _ _ _ _ _ _ _ _ _ _ _ _; exact lnQ_bad ⟨by omega, by omega⟩ hd g.2.2 g.2.1) | (exact lnG_a hd d3 (by assumption) (by assumption)) | (exact lnG_b hd d3 (by assumption) (by assumption)) | (exact lnG_c hd d4 (by assumption) (by assumption)) | (exact lnG_d hd d4 (by assumption) (by assumption) (by assumption)) | (exact lnG_e hd d3 d4 (by assumption) (by assumption)) | (exact lnG_x d3 d4 (by assumption) (by assumption)) | assumption | rfl | omega | (show lnQ _ _ _ _ _ _ _ _ _ _ _ _ _ _ _ _; exact lnQ_do q_16.1 (by omega) (by omega)) | (intro z hz; exact q_16.2.1 z (by omega)) | (exact q_16.2.2.1) | (intro z hz; rw [upI_n _ _ (by omega)]) | (intro z hz; rfl) | (intro z hz; rw [q_66.2.2.1 z (by omega) (by omega), q_31.2.2.1 z (by omega) (by omega)]) | (intro z hz; exact q_31.2.2.1 z (by omega) (by omega)) | grind [upI])
theorem vX3_line_26 (s : MS) (hp : 0 ≤ (s.1 7) ∧ (s.1 7) ≤ (s.1 6) ∧ (s.1 6) ≤ 800 ∧ (s.1 12) = 0 ∧ (0 ≤ (s.2 6) 24 ∧ (s.2 6) 24 ≤ 100) ∧ ((s.1 21) = 0 → (s.2 6) 27 = 0) ∧ (0 ≤ (s.2 6) 28 ∧ (s.2 6) 28 ≤ 6) ∧ (0 ≤ (s.2 6) 29 ∧ (s.2 6) 29 ≤ 20) ∧ (0 ≤ (s.2 6) 26 ∧ (s.2 6) 26 ≤ 200000)) (x1 : Int) (x2 : Int) (f6 : Int → Int) (f7 : Int → Int) (f8 : Int → Int) (f9 : Int → Int) (k7 : Int) (k8 : Int) (k9 : Int) (k10 : Int) (k11 : Int) (k12 : Int) (k13 : Int) (k21 : Int) (hI : (k7 = s.1 7 ∧ k8 = s.1 8 ∧ k9 = s.1 9 ∧ k10 = s.1 10 ∧ k11 = s.1 11) ∧ (f6 = s.2 6 ∧ f7 = s.2 7 ∧ f8 = s.2 8 ∧ f9 = s.2 9 ∧ k21 = s.1 21) ∧ (k12 = 0 ∧ k13 = s.1 13) ∧ (x1 = bI (s.1 8 = 1 ∧ s.1 11 = 382984) ∧ x2 = bI (s.1 8 = 1 ∧ s.1 11 = 212302449)) ∧ ¬ (s.1 8 = 1 ∧ s.1 11 = 2427955)) (c_1 : x1 = 0) (c_17 : ¬ x2 = 0) (c_18 : ¬ x1 = 0) (o_24 : (0 ≤ (4 : Int) ∧ (4 : Int) < 6)) (c_26 : (f6 (24 + (4 : Int))) = 6) : (k7 = s.1 7 ∧ k8 = s.1 8 ∧ k9 = s.1 9 ∧ k10 = s.1 10 ∧ k11 = s.1 11) ∧ (f6 = s.2 6 ∧ f7 = s.2 7 ∧ f8 = s.2 8 ∧ f9 = s.2 9 ∧ k21 = s.1 21) ∧ lnG (s.1 8) (s.1 11) (s.2 6 28) (s.2 6 29) (if k12 = 0 then (3 : Int) else k12) (if k12 = 0 then k9 else k13) (s.1 13) (s.1 9) x1 := by
  obtain ⟨p0, p1, p2, p3, p4, p5, p6, p7, p8⟩ := hp
  (try simp only [Int.add_zero, Int.reduceAdd, bI_0, bI_n, Classical.not_not, p3, true_and] at *)
  (try (have h2 := hI; clear hI; obtain ⟨⟨a1, a2, a3, a4, a5⟩, ⟨b1, b2, b3, b4, b5⟩, hJ⟩ := h2; subst a1 a2 a3 a4 a5 b1 b2 b3 b4 b5))
  (try (have h4 := hJ; obtain ⟨⟨d1, d2⟩, ⟨d3, d4⟩, hd⟩ := h4; clear hJ; subst d1 d2))
  (try simp only [Int.reduceEq, ↓reduceIte] at *)
  (try (have h3 := hJ; clear hJ; obtain ⟨hd, hg⟩ := h3))
  (try have g := hg.resolve_right (fun h => h.1 (by assumption)))
  (try have g := hg.resolve_left (fun h => absurd h.1 (by assumption)))
  (try (have c0 : k12 = 0 := c_1; subst c0))
  (try (have y := g.2.2.resolve_left (fun h => by omega); clear g hg; try clear o_22; try clear o_36; try clear o_57))
  (try (have y := g.2.2.resolve_right (fun h => by omega); clear g hg; try clear o_22; try clear o_36; try clear o_57))
  (try have ex := enx_b (t := s.2 4) p1)
  (try have q181 := q_18.1.1)
  (try have q311 := q_31.1.1)
  (try have q541 := q_54.1)
  (try have q661 := q_66.1.1)
  (try simp (disch := omega) only [i32_id] at *)
  (try unfold lex3)
  (try simp only [bI_0, bI_n, Classical.not_not] at *)
  (try simp (disch := omega) only [i32_id] at *)
  first | done | omega | ((repeat' (with_reducible apply And.intro)) <;> first | (show lnQ _ _ _ _ _ _ _ _ _ _ _ _ _ _ _ _; have hx : x1 = 0 := c_4; exact lnQ_n y.2.1 y.2.2 rfl q_18 (by rw [rep_h (i := 5) (by decide), rep_t (i := s.2 6 29) rfl]; rfl)) | (show lnQ _ _ _ _ _ _ _ _ _ _ _ _ _ _ _ _; have hx : ¬ x1 = 0 := c_4; exact lnQ_s1 y.2.1 y.2.2 q_31 (by assumption)) | (show lnQ _ _ _ _ _ _ _ _ _ _ _ _ _ _ _ _; have hx : ¬ x1 = 0 := c_4; exact lnQ_s2 y.2.1 y.2.2 q_31 (by assumption) q_54 (by assumption)) | (show lnQ _ _ _ _ _ _ _ _ _ _ _ _ _ _ _ _; have hx : ¬ x1 = 0 := c_4; exact lnQ_s3 y.2.1 y.2.2 q_31 (by assumption) q_54 (by assumption) q_66 (fun w v w2 v2 hx => by rw [rep_h (i := 4) (by decide), hx, rep_s (i := 4 * s.2 6 28 + 3) (by omega), rep_s (i := 4 * s.2 6 28 + 2) (by omega), rep_s (i := 4 * s.2 6 28 + 1) (by omega), rep_s (i := 4 * s.2 6 28) (by omega)]; rfl)) | (show lnQ _ _ _ _ _ _ _ _ _ _ _ _ _ _ _ _; exact lnQ_bad ⟨by omega, by omega⟩ hd g.2.2 g.2.1) | (exact lnG_a hd d3 (by assumption) (by assumption)) | (exact lnG_b hd d3 (by assumption) (by assumption)) | (exact lnG_c hd d4 (by assumption) (by assumption)) | (exact lnG_d hd d4 (by assumption) (by assumption) (by assumption)) | (exact lnG_e hd d3 d4 (by assumption) (by assumption)) | (exact lnG_x d3 d4 (by assumption) (by assumption)) | assumption | rfl | omega | (show lnQ _ _ _ _ _ _ _ _ _ _ _ _ _ _ _ _; exact lnQ_do q_16.1 (by omega) (by omega)) | (intro z hz; exact q_16.2.1 z (by omega)) | (exact q_16.2.2.1) | (intro z hz; rw [upI_n _ _ (by omega)]) | (intro z hz; rfl) | (intro z hz; rw [q_66.2.2.1 z (by omega) (by omega), q_31.2.2.1 z (by omega) (by omega)]) | (intro z hz; exact q_31.2.2.1 z (by omega) (by omega)) | grind [upI])
theorem vX3_line_27 (s : MS) (hp : 0 ≤ (s.1 7) ∧ (s.1 7) ≤ (s.1 6) ∧ (s.1 6) ≤ 800 ∧ (s.1 12) = 0 ∧ (0 ≤ (s.2 6) 24 ∧ (s.2 6) 24 ≤ 100) ∧ ((s.1 21) = 0 → (s.2 6) 27 = 0) ∧ (0 ≤ (s.2 6) 28 ∧ (s.2 6) 28 ≤ 6) ∧ (0 ≤ (s.2 6) 29 ∧ (s.2 6) 29 ≤ 20) ∧ (0 ≤ (s.2 6) 26 ∧ (s.2 6) 26 ≤ 200000)) (x1 : Int) (x2 : Int) (f6 : Int → Int) (f7 : Int → Int) (f8 : Int → Int) (f9 : Int → Int) (k7 : Int) (k8 : Int) (k9 : Int) (k10 : Int) (k11 : Int) (k12 : Int) (k13 : Int) (k21 : Int) (hI : (k7 = s.1 7 ∧ k8 = s.1 8 ∧ k9 = s.1 9 ∧ k10 = s.1 10 ∧ k11 = s.1 11) ∧ (f6 = s.2 6 ∧ f7 = s.2 7 ∧ f8 = s.2 8 ∧ f9 = s.2 9 ∧ k21 = s.1 21) ∧ (k12 = 0 ∧ k13 = s.1 13) ∧ (x1 = bI (s.1 8 = 1 ∧ s.1 11 = 382984) ∧ x2 = bI (s.1 8 = 1 ∧ s.1 11 = 212302449)) ∧ ¬ (s.1 8 = 1 ∧ s.1 11 = 2427955)) (c_1 : x1 = 0) (c_17 : ¬ x2 = 0) (c_18 : ¬ x1 = 0) (o_24 : (0 ≤ (4 : Int) ∧ (4 : Int) < 6)) (c_26 : (f6 (24 + (4 : Int))) = 6) : lex3 0 0 0 0 0 1 := by
  obtain ⟨p0, p1, p2, p3, p4, p5, p6, p7, p8⟩ := hp
  (try simp only [Int.add_zero, Int.reduceAdd, bI_0, bI_n, Classical.not_not, p3, true_and] at *)
  (try (have h2 := hI; clear hI; obtain ⟨⟨a1, a2, a3, a4, a5⟩, ⟨b1, b2, b3, b4, b5⟩, hJ⟩ := h2; subst a1 a2 a3 a4 a5 b1 b2 b3 b4 b5))
  (try (have h4 := hJ; obtain ⟨⟨d1, d2⟩, ⟨d3, d4⟩, hd⟩ := h4; clear hJ; subst d1 d2))
  (try simp only [Int.reduceEq, ↓reduceIte] at *)
  (try (have h3 := hJ; clear hJ; obtain ⟨hd, hg⟩ := h3))
  (try have g := hg.resolve_right (fun h => h.1 (by assumption)))
  (try have g := hg.resolve_left (fun h => absurd h.1 (by assumption)))
  (try (have c0 : k12 = 0 := c_1; subst c0))
  (try (have y := g.2.2.resolve_left (fun h => by omega); clear g hg; try clear o_22; try clear o_36; try clear o_57))
  (try (have y := g.2.2.resolve_right (fun h => by omega); clear g hg; try clear o_22; try clear o_36; try clear o_57))
  (try have ex := enx_b (t := s.2 4) p1)
  (try have q181 := q_18.1.1)
  (try have q311 := q_31.1.1)
  (try have q541 := q_54.1)
  (try have q661 := q_66.1.1)
  (try simp (disch := omega) only [i32_id] at *)
  (try unfold lex3)
  (try simp only [bI_0, bI_n, Classical.not_not] at *)
  (try simp (disch := omega) only [i32_id] at *)
  first | done | omega | ((repeat' (with_reducible apply And.intro)) <;> first | (show lnQ _ _ _ _ _ _ _ _ _ _ _ _ _ _ _ _; have hx : x1 = 0 := c_4; exact lnQ_n y.2.1 y.2.2 rfl q_18 (by rw [rep_h (i := 5) (by decide), rep_t (i := s.2 6 29) rfl]; rfl)) | (show lnQ _ _ _ _ _ _ _ _ _ _ _ _ _ _ _ _; have hx : ¬ x1 = 0 := c_4; exact lnQ_s1 y.2.1 y.2.2 q_31 (by assumption)) | (show lnQ _ _ _ _ _ _ _ _ _ _ _ _ _ _ _ _; have hx : ¬ x1 = 0 := c_4; exact lnQ_s2 y.2.1 y.2.2 q_31 (by assumption) q_54 (by assumption)) | (show lnQ _ _ _ _ _ _ _ _ _ _ _ _ _ _ _ _; have hx : ¬ x1 = 0 := c_4; exact lnQ_s3 y.2.1 y.2.2 q_31 (by assumption) q_54 (by assumption) q_66 (fun w v w2 v2 hx => by rw [rep_h (i := 4) (by decide), hx, rep_s (i := 4 * s.2 6 28 + 3) (by omega), rep_s (i := 4 * s.2 6 28 + 2) (by omega), rep_s (i := 4 * s.2 6 28 + 1) (by omega), rep_s (i := 4 * s.2 6 28) (by omega)]; rfl)) | (show lnQ _ _ _ _ _ _ _ _ _ _ _ _ _ _ _ _; exact lnQ_bad ⟨by omega, by omega⟩ hd g.2.2 g.2.1) | (exact lnG_a hd d3 (by assumption) (by assumption)) | (exact lnG_b hd d3 (by assumption) (by assumption)) | (exact lnG_c hd d4 (by assumption) (by assumption)) | (exact lnG_d hd d4 (by assumption) (by assumption) (by assumption)) | (exact lnG_e hd d3 d4 (by assumption) (by assumption)) | (exact lnG_x d3 d4 (by assumption) (by assumption)) | assumption | rfl | omega | (show lnQ _ _ _ _ _ _ _ _ _ _ _ _ _ _ _ _; exact lnQ_do q_16.1 (by omega) (by omega)) | (intro z hz; exact q_16.2.1 z (by omega)) | (exact q_16.2.2.1) | (intro z hz; rw [upI_n _ _ (by omega)]) | (intro z hz; rfl) | (intro z hz; rw [q_66.2.2.1 z (by omega) (by omega), q_31.2.2.1 z (by omega) (by omega)]) | (intro z hz; exact q_31.2.2.1 z (by omega) (by omega)) | grind [upI])
theorem vX3_line_28 (s : MS) (hp : 0 ≤ (s.1 7) ∧ (s.1 7) ≤ (s.1 6) ∧ (s.1 6) ≤ 800 ∧ (s.1 12) = 0 ∧ (0 ≤ (s.2 6) 24 ∧ (s.2 6) 24 ≤ 100) ∧ ((s.1 21) = 0 → (s.2 6) 27 = 0) ∧ (0 ≤ (s.2 6) 28 ∧ (s.2 6) 28 ≤ 6) ∧ (0 ≤ (s.2 6) 29 ∧ (s.2 6) 29 ≤ 20) ∧ (0 ≤ (s.2 6) 26 ∧ (s.2 6) 26 ≤ 200000)) (x1 : Int) (x2 : Int) (f6 : Int → Int) (f7 : Int → Int) (f8 : Int → Int) (f9 : Int → Int) (k7 : Int) (k8 : Int) (k9 : Int) (k10 : Int) (k11 : Int) (k12 : Int) (k13 : Int) (k21 : Int) (hI : (k7 = s.1 7 ∧ k8 = s.1 8 ∧ k9 = s.1 9 ∧ k10 = s.1 10 ∧ k11 = s.1 11) ∧ (f6 = s.2 6 ∧ f7 = s.2 7 ∧ f8 = s.2 8 ∧ f9 = s.2 9 ∧ k21 = s.1 21) ∧ (k12 = 0 ∧ k13 = s.1 13) ∧ (x1 = bI (s.1 8 = 1 ∧ s.1 11 = 382984) ∧ x2 = bI (s.1 8 = 1 ∧ s.1 11 = 212302449)) ∧ ¬ (s.1 8 = 1 ∧ s.1 11 = 2427955)) (c_1 : x1 = 0) (c_17 : ¬ x2 = 0) (c_18 : ¬ x1 = 0) (o_24 : (0 ≤ (4 : Int) ∧ (4 : Int) < 6)) (c_26 : ¬ (f6 (24 + (4 : Int))) = 6) (c_28 : x2 = 0) : (k7 = s.1 7 ∧ k8 = s.1 8 ∧ k9 = s.1 9 ∧ k10 = s.1 10 ∧ k11 = s.1 11) ∧ (f6 = s.2 6 ∧ f7 = s.2 7 ∧ f8 = s.2 8 ∧ f9 = s.2 9 ∧ k21 = s.1 21) ∧ lnG (s.1 8) (s.1 11) (s.2 6 28) (s.2 6 29) k12 k13 (s.1 13) (s.1 9) x1 := by
  obtain ⟨p0, p1, p2, p3, p4, p5, p6, p7, p8⟩ := hp
  (try simp only [Int.add_zero, Int.reduceAdd, bI_0, bI_n, Classical.not_not, p3, true_and] at *)
  (try (have h2 := hI; clear hI; obtain ⟨⟨a1, a2, a3, a4, a5⟩, ⟨b1, b2, b3, b4, b5⟩, hJ⟩ := h2; subst a1 a2 a3 a4 a5 b1 b2 b3 b4 b5))
  (try (have h4 := hJ; obtain ⟨⟨d1, d2⟩, ⟨d3, d4⟩, hd⟩ := h4; clear hJ; subst d1 d2))
  (try simp only [Int.reduceEq, ↓reduceIte] at *)
  (try (have h3 := hJ; clear hJ; obtain ⟨hd, hg⟩ := h3))
  (try have g := hg.resolve_right (fun h => h.1 (by assumption)))
  (try have g := hg.resolve_left (fun h => absurd h.1 (by assumption)))
  (try (have c0 : k12 = 0 := c_1; subst c0))
  (try (have y := g.2.2.resolve_left (fun h => by omega); clear g hg; try clear o_22; try clear o_36; try clear o_57))
  (try (have y := g.2.2.resolve_right (fun h => by omega); clear g hg; try clear o_22; try clear o_36; try clear o_57))
  (try have ex := enx_b (t := s.2 4) p1)
  (try have q181 := q_18.1.1)
  (try have q311 := q_31.1.1)
  (try have q541 := q_54.1)
  (try have q661 := q_66.1.1)
  (try simp (disch := omega) only [i32_id] at *)
  (try unfold lex3)
  (try simp only [bI_0, bI_n, Classical.not_not] at *)
  (try simp (disch := omega) only [i32_id] at *)
  first | done | omega | ((repeat' (with_reducible apply And.intro)) <;> first | (show lnQ _ _ _ _ _ _ _ _ _ _ _ _ _ _ _ _; have hx : x1 = 0 := c_4; exact lnQ_n y.2.1 y.2.2 rfl q_18 (by rw [rep_h (i := 5) (by decide), rep_t (i := s.2 6 29) rfl]; rfl)) | (show lnQ _ _ _ _ _ _ _ _ _ _ _ _ _ _ _ _; have hx : ¬ x1 = 0 := c_4; exact lnQ_s1 y.2.1 y.2.2 q_31 (by assumption)) | (show lnQ _ _ _ _ _ _ _ _ _ _ _ _ _ _ _ _; have hx : ¬ x1 = 0 := c_4; exact lnQ_s2 y.2.1 y.2.2 q_31 (by assumption) q_54 (by assumption)) | (show lnQ _ _ _ _ _ _ _ _ _ _ _ _ _ _ _ _; have hx : ¬ x1 = 0 := c_4; exact lnQ_s3 y.2.1 y.2.2 q_31 (by assumption) q_54 (by assumption) q_66 (fun w v w2 v2 hx => by rw [rep_h (i := 4) (by decide), hx, rep_s (i := 4 * s.2 6 28 + 3) (by omega), rep_s (i := 4 * s.2 6 28 + 2) (by omega), rep_s (i := 4 * s.2 6 28 + 1) (by omega), rep_s (i := 4 * s.2 6 28) (by omega)]; rfl)) | (show lnQ _ _ _ _ _ _ _ _ _ _ _ _ _ _ _ _; exact lnQ_bad ⟨by omega, by omega⟩ hd g.2.2 g.2.1) | (exact lnG_a hd d3 (by assumption) (by assumption)) | (exact lnG_b hd d3 (by assumption) (by assumption)) | (exact lnG_c hd d4 (by assumption) (by assumption)) | (exact lnG_d hd d4 (by assumption) (by assumption) (by assumption)) | (exact lnG_e hd d3 d4 (by assumption) (by assumption)) | (exact lnG_x d3 d4 (by assumption) (by assumption)) | assumption | rfl | omega | (show lnQ _ _ _ _ _ _ _ _ _ _ _ _ _ _ _ _; exact lnQ_do q_16.1 (by omega) (by omega)) | (intro z hz; exact q_16.2.1 z (by omega)) | (exact q_16.2.2.1) | (intro z hz; rw [upI_n _ _ (by omega)]) | (intro z hz; rfl) | (intro z hz; rw [q_66.2.2.1 z (by omega) (by omega), q_31.2.2.1 z (by omega) (by omega)]) | (intro z hz; exact q_31.2.2.1 z (by omega) (by omega)) | grind [upI])
theorem vX3_line_29 (s : MS) (hp : 0 ≤ (s.1 7) ∧ (s.1 7) ≤ (s.1 6) ∧ (s.1 6) ≤ 800 ∧ (s.1 12) = 0 ∧ (0 ≤ (s.2 6) 24 ∧ (s.2 6) 24 ≤ 100) ∧ ((s.1 21) = 0 → (s.2 6) 27 = 0) ∧ (0 ≤ (s.2 6) 28 ∧ (s.2 6) 28 ≤ 6) ∧ (0 ≤ (s.2 6) 29 ∧ (s.2 6) 29 ≤ 20) ∧ (0 ≤ (s.2 6) 26 ∧ (s.2 6) 26 ≤ 200000)) (x1 : Int) (x2 : Int) (f6 : Int → Int) (f7 : Int → Int) (f8 : Int → Int) (f9 : Int → Int) (k7 : Int) (k8 : Int) (k9 : Int) (k10 : Int) (k11 : Int) (k12 : Int) (k13 : Int) (k21 : Int) (hI : (k7 = s.1 7 ∧ k8 = s.1 8 ∧ k9 = s.1 9 ∧ k10 = s.1 10 ∧ k11 = s.1 11) ∧ (f6 = s.2 6 ∧ f7 = s.2 7 ∧ f8 = s.2 8 ∧ f9 = s.2 9 ∧ k21 = s.1 21) ∧ (k12 = 0 ∧ k13 = s.1 13) ∧ (x1 = bI (s.1 8 = 1 ∧ s.1 11 = 382984) ∧ x2 = bI (s.1 8 = 1 ∧ s.1 11 = 212302449)) ∧ ¬ (s.1 8 = 1 ∧ s.1 11 = 2427955)) (c_1 : x1 = 0) (c_17 : ¬ x2 = 0) (c_18 : ¬ x1 = 0) (o_24 : (0 ≤ (4 : Int) ∧ (4 : Int) < 6)) (c_26 : ¬ (f6 (24 + (4 : Int))) = 6) (c_28 : x2 = 0) : lex3 0 0 0 0 0 1 := by
  obtain ⟨p0, p1, p2, p3, p4, p5, p6, p7, p8⟩ := hp
  (try simp only [Int.add_zero, Int.reduceAdd, bI_0, bI_n, Classical.not_not, p3, true_and] at *)
  (try (have h2 := hI; clear hI; obtain ⟨⟨a1, a2, a3, a4, a5⟩, ⟨b1, b2, b3, b4, b5⟩, hJ⟩ := h2; subst a1 a2 a3 a4 a5 b1 b2 b3 b4 b5))
  (try (have h4 := hJ; obtain ⟨⟨d1, d2⟩, ⟨d3, d4⟩, hd⟩ := h4; clear hJ; subst d1 d2))
  (try simp only [Int.reduceEq, ↓reduceIte] at *)
  (try (have h3 := hJ; clear hJ; obtain ⟨hd, hg⟩ := h3))
  (try have g := hg.resolve_right (fun h => h.1 (by assumption)))
  (try have g := hg.resolve_left (fun h => absurd h.1 (by assumption)))
  (try (have c0 : k12 = 0 := c_1; subst c0))
  (try (have y := g.2.2.resolve_left (fun h => by omega); clear g hg; try clear o_22; try clear o_36; try clear o_57))
  (try (have y := g.2.2.resolve_right (fun h => by omega); clear g hg; try clear o_22; try clear o_36; try clear o_57))
  (try have ex := enx_b (t := s.2 4) p1)
  (try have q181 := q_18.1.1)
  (try have q311 := q_31.1.1)
  (try have q541 := q_54.1)
  (try have q661 := q_66.1.1)
  (try simp (disch := omega) only [i32_id] at *)
  (try unfold lex3)
  (try simp only [bI_0, bI_n, Classical.not_not] at *)
  (try simp (disch := omega) only [i32_id] at *)
  first | done | omega | ((repeat' (with_reducible apply And.intro)) <;> first | (show lnQ _ _ _ _ _ _ _ _ _ _ _ _ _ _ _ _; have hx : x1 = 0 := c_4; exact lnQ_n y.2.1 y.2.2 rfl q_18 (by rw [rep_h (i := 5) (by decide), rep_t (i := s.2 6 29) rfl]; rfl)) | (show lnQ _ _ _ _ _ _ _ _ _ _ _ _ _ _ _ _; have hx : ¬ x1 = 0 := c_4; exact lnQ_s1 y.2.1 y.2.2 q_31 (by assumption)) | (show lnQ _ _ _ _ _ _ _ _ _ _ _ _ _ _ _ _; have hx : ¬ x1 = 0 := c_4; exact lnQ_s2 y.2.1 y.2.2 q_31 (by assumption) q_54 (by assumption)) | (show lnQ _ _ _ _ _ _ _ _ _ _ _ _ _ _ _ _; have hx : ¬ x1 = 0 := c_4; exact lnQ_s3 y.2.1 y.2.2 q_31 (by assumption) q_54 (by assumption) q_66 (fun w v w2 v2 hx => by rw [rep_h (i := 4) (by decide), hx, rep_s (i := 4 * s.2 6 28 + 3) (by omega), rep_s (i := 4 * s.2 6 28 + 2) (by omega), rep_s (i := 4 * s.2 6 28 + 1) (by omega), rep_s (i := 4 * s.2 6 28) (by omega)]; rfl)) | (show lnQ _ _ _ _ _ _ _ _ _ _ _ _ _ _ _ _; exact lnQ_bad ⟨by omega, by omega⟩ hd g.2.2 g.2.1) | (exact lnG_a hd d3 (by assumption) (by assumption)) | (exact lnG_b hd d3 (by assumption) (by assumption)) | (exact lnG_c hd d4 (by assumption) (by assumption)) | (exact lnG_d hd d4 (by assumption) (by assumption) (by assumption)) | (exact lnG_e hd d3 d4 (by assumption) (by assumption)) | (exact lnG_x d3 d4 (by assumption) (by assumption)) | assumption | rfl | omega | (show lnQ _ _ _ _ _ _ _ _ _ _ _ _ _ _ _ _; exact lnQ_do q_16.1 (by omega) (by omega)) | (intro z hz; exact q_16.2.1 z (by omega)) | (exact q_16.2.2.1) | (intro z hz; rw [upI_n _ _ (by omega)]) | (intro z hz; rfl) | (intro z hz; rw [q_66.2.2.1 z (by omega) (by omega), q_31.2.2.1 z (by omega) (by omega)]) | (intro z hz; exact q_31.2.2.1 z (by omega) (by omega)) | grind [upI])
theorem vX3_line_30 (s : MS) (hp : 0 ≤ (s.1 7) ∧ (s.1 7) ≤ (s.1 6) ∧ (s.1 6) ≤ 800 ∧ (s.1 12) = 0 ∧ (0 ≤ (s.2 6) 24 ∧ (s.2 6) 24 ≤ 100) ∧ ((s.1 21) = 0 → (s.2 6) 27 = 0) ∧ (0 ≤ (s.2 6) 28 ∧ (s.2 6) 28 ≤ 6) ∧ (0 ≤ (s.2 6) 29 ∧ (s.2 6) 29 ≤ 20) ∧ (0 ≤ (s.2 6) 26 ∧ (s.2 6) 26 ≤ 200000)) (x1 : Int) (x2 : Int) (f6 : Int → Int) (f7 : Int → Int) (f8 : Int → Int) (f9 : Int → Int) (k7 : Int) (k8 : Int) (k9 : Int) (k10 : Int) (k11 : Int) (k12 : Int) (k13 : Int) (k21 : Int) (hI : (k7 = s.1 7 ∧ k8 = s.1 8 ∧ k9 = s.1 9 ∧ k10 = s.1 10 ∧ k11 = s.1 11) ∧ (f6 = s.2 6 ∧ f7 = s.2 7 ∧ f8 = s.2 8 ∧ f9 = s.2 9 ∧ k21 = s.1 21) ∧ (k12 = 0 ∧ k13 = s.1 13) ∧ (x1 = bI (s.1 8 = 1 ∧ s.1 11 = 382984) ∧ x2 = bI (s.1 8 = 1 ∧ s.1 11 = 212302449)) ∧ ¬ (s.1 8 = 1 ∧ s.1 11 = 2427955)) (c_1 : x1 = 0) (c_17 : ¬ x2 = 0) (c_18 : ¬ x1 = 0) (o_24 : (0 ≤ (4 : Int) ∧ (4 : Int) < 6)) (c_26 : ¬ (f6 (24 + (4 : Int))) = 6) (c_28 : ¬ x2 = 0) : (0 ≤ (5 : Int) ∧ (5 : Int) < 6) := by
  obtain ⟨p0, p1, p2, p3, p4, p5, p6, p7, p8⟩ := hp
  (try simp only [Int.add_zero, Int.reduceAdd, bI_0, bI_n, Classical.not_not, p3, true_and] at *)
  (try (have h2 := hI; clear hI; obtain ⟨⟨a1, a2, a3, a4, a5⟩, ⟨b1, b2, b3, b4, b5⟩, hJ⟩ := h2; subst a1 a2 a3 a4 a5 b1 b2 b3 b4 b5))
  (try (have h4 := hJ; obtain ⟨⟨d1, d2⟩, ⟨d3, d4⟩, hd⟩ := h4; clear hJ; subst d1 d2))
  (try simp only [Int.reduceEq, ↓reduceIte] at *)
  (try (have h3 := hJ; clear hJ; obtain ⟨hd, hg⟩ := h3))
  (try have g := hg.resolve_right (fun h => h.1 (by assumption)))
  (try have g := hg.resolve_left (fun h => absurd h.1 (by assumption)))
  (try (have c0 : k12 = 0 := c_1; subst c0))
  (try (have y := g.2.2.resolve_left (fun h => by omega); clear g hg; try clear o_22; try clear o_36; try clear o_57))
  (try (have y := g.2.2.resolve_right (fun h => by omega); clear g hg; try clear o_22; try clear o_36; try clear o_57))
  (try have ex := enx_b (t := s.2 4) p1)
  (try have q181 := q_18.1.1)
  (try have q311 := q_31.1.1)
  (try have q541 := q_54.1)
  (try have q661 := q_66.1.1)
  (try simp (disch := omega) only [i32_id] at *)
  (try unfold lex3)
  (try simp only [bI_0, bI_n, Classical.not_not] at *)
  (try simp (disch := omega) only [i32_id] at *)
  first | done | omega | ((repeat' (with_reducible apply And.intro)) <;> first | (show lnQ _ _ _ _ _ _ _ _ _ _ _ _ _ _ _ _; have hx : x1 = 0 := c_4; exact lnQ_n y.2.1 y.2.2 rfl q_18 (by rw [rep_h (i := 5) (by decide), rep_t (i := s.2 6 29) rfl]; rfl)) | (show lnQ _ _ _ _ _ _ _ _ _ _ _ _ _ _ _ _; have hx : ¬ x1 = 0 := c_4; exact lnQ_s1 y.2.1 y.2.2 q_31 (by assumption)) | (show lnQ _ _ _ _ _ _ _ _ _ _ _ _ _ _ _ _; have hx : ¬ x1 = 0 := c_4; exact lnQ_s2 y.2.1 y.2.2 q_31 (by assumption) q_54 (by assumption)) | (show lnQ _ _ _ _ _ _ _ _ _ _ _ _ _ _ _ _; have hx : ¬ x1 = 0 := c_4; exact lnQ_s3 y.2.1 y.2.2 q_31 (by assumption) q_54 (by assumption) q_66 (fun w v w2 v2 hx => by rw [rep_h (i := 4) (by decide), hx, rep_s (i := 4 * s.2 6 28 + 3) (by omega), rep_s (i := 4 * s.2 6 28 + 2) (by omega), rep_s (i := 4 * s.2 6 28 + 1) (by omega), rep_s (i := 4 * s.2 6 28) (by omega)]; rfl)) | (show lnQ _ _ _ _ _ _ _ _ _ _ _ _ _ _ _ _; exact lnQ_bad ⟨by omega, by omega⟩ hd g.2.2 g.2.1) | (exact lnG_a hd d3 (by assumption) (by assumption)) | (exact lnG_b hd d3 (by assumption) (by assumption)) | (exact lnG_c hd d4 (by assumption) (by assumption)) | (exact lnG_d hd d4 (by assumption) (by assumption) (by assumption)) | (exact lnG_e hd d3 d4 (by assumption) (by assumption)) | (exact lnG_x d3 d4 (by assumption) (by assumption)) | assumption | rfl | omega | (show lnQ _ _ _ _ _ _ _ _ _ _ _ _ _ _ _ _; exact lnQ_do q_16.1 (by omega) (by omega)) | (intro z hz; exact q_16.2.1 z (by omega)) | (exact q_16.2.2.1) | (intro z hz; rw [upI_n _ _ (by omega)]) | (intro z hz; rfl) | (intro z hz; rw [q_66.2.2.1 z (by omega) (by omega), q_31.2.2.1 z (by omega) (by omega)]) | (intro z hz; exact q_31.2.2.1 z (by omega) (by omega)) | grind [upI])
theorem vX3_line_31 (s : MS) (hp : 0 ≤ (s.1 7) ∧ (s.1 7) ≤ (s.1 6) ∧ (s.1 6) ≤ 800 ∧ (s.1 12) = 0 ∧ (0 ≤ (s.2 6) 24 ∧ (s.2 6) 24 ≤ 100) ∧ ((s.1 21) = 0 → (s.2 6) 27 = 0) ∧ (0 ≤ (s.2 6) 28 ∧ (s.2 6) 28 ≤ 6) ∧ (0 ≤ (s.2 6) 29 ∧ (s.2 6) 29 ≤ 20) ∧ (0 ≤ (s.2 6) 26 ∧ (s.2 6) 26 ≤ 200000)) (x1 : Int) (x2 : Int) (f6 : Int → Int) (f7 : Int → Int) (f8 : Int → Int) (f9 : Int → Int) (k7 : Int) (k8 : Int) (k9 : Int) (k10 : Int) (k11 : Int) (k12 : Int) (k13 : Int) (k21 : Int) (hI : (k7 = s.1 7 ∧ k8 = s.1 8 ∧ k9 = s.1 9 ∧ k10 = s.1 10 ∧ k11 = s.1 11) ∧ (f6 = s.2 6 ∧ f7 = s.2 7 ∧ f8 = s.2 8 ∧ f9 = s.2 9 ∧ k21 = s.1 21) ∧ (k12 = 0 ∧ k13 = s.1 13) ∧ (x1 = bI (s.1 8 = 1 ∧ s.1 11 = 382984) ∧ x2 = bI (s.1 8 = 1 ∧ s.1 11 = 212302449)) ∧ ¬ (s.1 8 = 1 ∧ s.1 11 = 2427955)) (c_1 : x1 = 0) (c_17 : ¬ x2 = 0) (c_18 : ¬ x1 = 0) (o_24 : (0 ≤ (4 : Int) ∧ (4 : Int) < 6)) (c_26 : ¬ (f6 (24 + (4 : Int))) = 6) (c_28 : ¬ x2 = 0) (o_29 : (0 ≤ (5 : Int) ∧ (5 : Int) < 6)) (c_31 : ¬ (f6 (24 + (5 : Int))) = 20) : (k7 = s.1 7 ∧ k8 = s.1 8 ∧ k9 = s.1 9 ∧ k10 = s.1 10 ∧ k11 = s.1 11) ∧ (f6 = s.2 6 ∧ f7 = s.2 7 ∧ f8 = s.2 8 ∧ f9 = s.2 9 ∧ k21 = s.1 21) ∧ lnG (s.1 8) (s.1 11) (s.2 6 28) (s.2 6 29) k12 k13 (s.1 13) (s.1 9) x1 := by
  obtain ⟨p0, p1, p2, p3, p4, p5, p6, p7, p8⟩ := hp
  (try simp only [Int.add_zero, Int.reduceAdd, bI_0, bI_n, Classical.not_not, p3, true_and] at *)
  (try (have h2 := hI; clear hI; obtain ⟨⟨a1, a2, a3, a4, a5⟩, ⟨b1, b2, b3, b4, b5⟩, hJ⟩ := h2; subst a1 a2 a3 a4 a5 b1 b2 b3 b4 b5))
  (try (have h4 := hJ; obtain ⟨⟨d1, d2⟩, ⟨d3, d4⟩, hd⟩ := h4; clear hJ; subst d1 d2))
  (try simp only [Int.reduceEq, ↓reduceIte] at *)
  (try (have h3 := hJ; clear hJ; obtain ⟨hd, hg⟩ := h3))
  (try have g := hg.resolve_right (fun h => h.1 (by assumption)))
  (try have g := hg.resolve_left (fun h => absurd h.1 (by assumption)))
  (try (have c0 : k12 = 0 := c_1; subst c0))
  (try (have y := g.2.2.resolve_left (fun h => by omega); clear g hg; try clear o_22; try clear o_36; try clear o_57))
  (try (have y := g.2.2.resolve_right (fun h => by omega); clear g hg; try clear o_22; try clear o_36; try clear o_57))
  (try have ex := enx_b (t := s.2 4) p1)
  (try have q181 := q_18.1.1)
  (try have q311 := q_31.1.1)
  (try have q541 := q_54.1)
  (try have q661 := q_66.1.1)
  (try simp (disch := omega) only [i32_id] at *)
  (try unfold lex3)
  (try simp only [bI_0, bI_n, Classical.not_not] at *)
  (try simp (disch := omega) only [i32_id] at *)
  first | done | omega | ((repeat' (with_reducible apply And.intro)) <;> first | (show lnQ _ _ _ _ _ _ _ _ _ _ _ _ _ _ _ _; have hx : x1 = 0 := c_4; exact lnQ_n y.2.1 y.2.2 rfl q_18 (by rw [rep_h (i := 5) (by decide), rep_t (i := s.2 6 29) rfl]; rfl)) | (show lnQ _ _ _ _ _ _ _ _ _ _ _ _ _ _ _ _; have hx : ¬ x1 = 0 := c_4; exact lnQ_s1 y.2.1 y.2.2 q_31 (by assumption)) | (show lnQ _ _ _ _ _ _ _ _ _ _ _ _ _ _ _ _; have hx : ¬ x1 = 0 := c_4; exact lnQ_s2 y.2.1 y.2.2 q_31 (by assumption) q_54 (by assumption)) | (show lnQ _ _ _ _ _ _ _ _ _ _ _ _ _ _ _ _; have hx : ¬ x1 = 0 := c_4; exact lnQ_s3 y.2.1 y.2.2 q_31 (by assumption) q_54 (by assumption) q_66 (fun w v w2 v2 hx => by rw [rep_h (i := 4) (by decide), hx, rep_s (i := 4 * s.2 6 28 + 3) (by omega), rep_s (i := 4 * s.2 6 28 + 2) (by omega), rep_s (i := 4 * s.2 6 28 + 1) (by omega), rep_s (i := 4 * s.2 6 28) (by omega)]; rfl)) | (show lnQ _ _ _ _ _ _ _ _ _ _ _ _ _ _ _ _; exact lnQ_bad ⟨by omega, by omega⟩ hd g.2.2 g.2.1) | (exact lnG_a hd d3 (by assumption) (by assumption)) | (exact lnG_b hd d3 (by assumption) (by assumption)) | (exact lnG_c hd d4 (by assumption) (by assumption)) | (exact lnG_d hd d4 (by assumption) (by assumption) (by assumption)) | (exact lnG_e hd d3 d4 (by assumption) (by assumption)) | (exact lnG_x d3 d4 (by assumption) (by assumption)) | assumption | rfl | omega | (show lnQ _ _ _ _ _ _ _ _ _ _ _ _ _ _ _ _; exact lnQ_do q_16.1 (by omega) (by omega)) | (intro z hz; exact q_16.2.1 z (by omega)) | (exact q_16.2.2.1) | (intro z hz; rw [upI_n _ _ (by omega)]) | (intro z hz; rfl) | (intro z hz; rw [q_66.2.2.1 z (by omega) (by omega), q_31.2.2.1 z (by omega) (by omega)]) | (intro z hz; exact q_31.2.2.1 z (by omega) (by omega)) | grind [upI])
theorem vX3_line_32 (s : MS) (hp : 0 ≤ (s.1 7) ∧ (s.1 7) ≤ (s.1 6) ∧ (s.1 6) ≤ 800 ∧ (s.1 12) = 0 ∧ (0 ≤ (s.2 6) 24 ∧ (s.2 6) 24 ≤ 100) ∧ ((s.1 21) = 0 → (s.2 6) 27 = 0) ∧ (0 ≤ (s.2 6) 28 ∧ (s.2 6) 28 ≤ 6) ∧ (0 ≤ (s.2 6) 29 ∧ (s.2 6) 29 ≤ 20) ∧ (0 ≤ (s.2 6) 26 ∧ (s.2 6) 26 ≤ 200000)) (x1 : Int) (x2 : Int) (f6 : Int → Int) (f7 : Int → Int) (f8 : Int → Int) (f9 : Int → Int) (k7 : Int) (k8 : Int) (k9 : Int) (k10 : Int) (k11 : Int) (k12 : Int) (k13 : Int) (k21 : Int) (hI : (k7 = s.1 7 ∧ k8 = s.1 8 ∧ k9 = s.1 9 ∧ k10 = s.1 10 ∧ k11 = s.1 11) ∧ (f6 = s.2 6 ∧ f7 = s.2 7 ∧ f8 = s.2 8 ∧ f9 = s.2 9 ∧ k21 = s.1 21) ∧ (k12 = 0 ∧ k13 = s.1 13) ∧ (x1 = bI (s.1 8 = 1 ∧ s.1 11 = 382984) ∧ x2 = bI (s.1 8 = 1 ∧ s.1 11 = 212302449)) ∧ ¬ (s.1 8 = 1 ∧ s.1 11 = 2427955)) (c_1 : x1 = 0) (c_17 : ¬ x2 = 0) (c_18 : ¬ x1 = 0) (o_24 : (0 ≤ (4 : Int) ∧ (4 : Int) < 6)) (c_26 : ¬ (f6 (24 + (4 : Int))) = 6) (c_28 : ¬ x2 = 0) (o_29 : (0 ≤ (5 : Int) ∧ (5 : Int) < 6)) (c_31 : ¬ (f6 (24 + (5 : Int))) = 20) : lex3 0 0 0 0 0 1 := by
  obtain ⟨p0, p1, p2, p3, p4, p5, p6, p7, p8⟩ := hp
  (try simp only [Int.add_zero, Int.reduceAdd, bI_0, bI_n, Classical.not_not, p3, true_and] at *)
  (try (have h2 := hI; clear hI; obtain ⟨⟨a1, a2, a3, a4, a5⟩, ⟨b1, b2, b3, b4, b5⟩, hJ⟩ := h2; subst a1 a2 a3 a4 a5 b1 b2 b3 b4 b5))
  (try (have h4 := hJ; obtain ⟨⟨d1, d2⟩, ⟨d3, d4⟩, hd⟩ := h4; clear hJ; subst d1 d2))
  (try simp only [Int.reduceEq, ↓reduceIte] at *)
  (try (have h3 := hJ; clear hJ; obtain ⟨hd, hg⟩ := h3))
  (try have g := hg.resolve_right (fun h => h.1 (by assumption)))
  (try have g := hg.resolve_left (fun h => absurd h.1 (by assumption)))
  (try (have c0 : k12 = 0 := c_1; subst c0))
  (try (have y := g.2.2.resolve_left (fun h => by omega); clear g hg; try clear o_22; try clear o_36; try clear o_57))
  (try (have y := g.2.2.resolve_right (fun h => by omega); clear g hg; try clear o_22; try clear o_36; try clear o_57))
  (try have ex := enx_b (t := s.2 4) p1)
  (try have q181 := q_18.1.1)
  (try have q311 := q_31.1.1)
  (try have q541 := q_54.1)
  (try have q661 := q_66.1.1)
  (try simp (disch := omega) only [i32_id] at *)
  (try unfold lex3)
  (try simp only [bI_0, bI_n, Classical.not_not] at *)
  (try simp (disch := omega) only [i32_id] at *)
  first | done | omega | ((repeat' (with_reducible apply And.intro)) <;> first | (show lnQ _ _ _ _ _ _ _ _ _ _ _ _ _ _ _ _; have hx : x1 = 0 := c_4; exact lnQ_n y.2.1 y.2.2 rfl q_18 (by rw [rep_h (i := 5) (by decide), rep_t (i := s.2 6 29) rfl]; rfl)) | (show lnQ _ _ _ _ _ _ _ _ _ _ _ _ _ _ _ _; have hx : ¬ x1 = 0 := c_4; exact lnQ_s1 y.2.1 y.2.2 q_31 (by assumption)) | (show lnQ _ _ _ _ _ _ _ _ _ _ _ _ _ _ _ _; have hx : ¬ x1 = 0 := c_4; exact lnQ_s2 y.2.1 y.2.2 q_31 (by assumption) q_54 (by assumption)) | (show lnQ _ _ _ _ _ _ _ _ _ _ _ _ _ _ _ _; have hx : ¬ x1 = 0 := c_4; exact lnQ_s3 y.2.1 y.2.2 q_31 (by assumption) q_54 (by assumption) q_66 (fun w v w2 v2 hx => by rw [rep_h (i := 4) (by decide), hx, rep_s (i := 4 * s.2 6 28 + 3) (by omega), rep_s (i := 4 * s.2 6 28 + 2) (by omega), rep_s (i := 4 * s.2 6 28 + 1) (by omega), rep_s (i := 4 * s.2 6 28) (by omega)]; rfl)) | (show lnQ _ _ _ _ _ _ _ _ _ _ _ _ _ _ _ _; exact lnQ_bad ⟨by omega, by omega⟩ hd g.2.2 g.2.1) | (exact lnG_a hd d3 (by assumption) (by assumption)) | (exact lnG_b hd d3 (by assumption) (by assumption)) | (exact lnG_c hd d4 (by assumption) (by assumption)) | (exact lnG_d hd d4 (by assumption) (by assumption) (by assumption)) | (exact lnG_e hd d3 d4 (by assumption) (by assumption)) | (exact lnG_x d3 d4 (by assumption) (by assumption)) | assumption | rfl | omega | (show lnQ _ _ _ _ _ _ _ _ _ _ _ _ _ _ _ _; exact lnQ_do q_16.1 (by omega) (by omega)) | (intro z hz; exact q_16.2.1 z (by omega)) | (exact q_16.2.2.1) | (intro z hz; rw [upI_n _ _ (by omega)]) | (intro z hz; rfl) | (intro z hz; rw [q_66.2.2.1 z (by omega) (by omega), q_31.2.2.1 z (by omega) (by omega)]) | (intro z hz; exact q_31.2.2.1 z (by omega) (by omega)) | grind [upI])
theorem vX3_line_33 (s : MS) (hp : 0 ≤ (s.1 7) ∧ (s.1 7) ≤ (s.1 6) ∧ (s.1 6) ≤ 800 ∧ (s.1 12) = 0 ∧ (0 ≤ (s.2 6) 24 ∧ (s.2 6) 24 ≤ 100) ∧ ((s.1 21) = 0 → (s.2 6) 27 = 0) ∧ (0 ≤ (s.2 6) 28 ∧ (s.2 6) 28 ≤ 6) ∧ (0 ≤ (s.2 6) 29 ∧ (s.2 6) 29 ≤ 20) ∧ (0 ≤ (s.2 6) 26 ∧ (s.2 6) 26 ≤ 200000)) (x1 : Int) (x2 : Int) (f6 : Int → Int) (f7 : Int → Int) (f8 : Int → Int) (f9 : Int → Int) (k7 : Int) (k8 : Int) (k9 : Int) (k10 : Int) (k11 : Int) (k12 : Int) (k13 : Int) (k21 : Int) (hI : (k7 = s.1 7 ∧ k8 = s.1 8 ∧ k9 = s.1 9 ∧ k10 = s.1 10 ∧ k11 = s.1 11) ∧ (f6 = s.2 6 ∧ f7 = s.2 7 ∧ f8 = s.2 8 ∧ f9 = s.2 9 ∧ k21 = s.1 21) ∧ (k12 = 0 ∧ k13 = s.1 13) ∧ (x1 = bI (s.1 8 = 1 ∧ s.1 11 = 382984) ∧ x2 = bI (s.1 8 = 1 ∧ s.1 11 = 212302449)) ∧ ¬ (s.1 8 = 1 ∧ s.1 11 = 2427955)) (c_1 : x1 = 0) (c_17 : ¬ x2 = 0) (c_18 : ¬ x1 = 0) (o_24 : (0 ≤ (4 : Int) ∧ (4 : Int) < 6)) (c_26 : ¬ (f6 (24 + (4 : Int))) = 6) (c_28 : ¬ x2 = 0) (o_29 : (0 ≤ (5 : Int) ∧ (5 : Int) < 6)) (c_31 : (f6 (24 + (5 : Int))) = 20) : (k7 = s.1 7 ∧ k8 = s.1 8 ∧ k9 = s.1 9 ∧ k10 = s.1 10 ∧ k11 = s.1 11) ∧ (f6 = s.2 6 ∧ f7 = s.2 7 ∧ f8 = s.2 8 ∧ f9 = s.2 9 ∧ k21 = s.1 21) ∧ lnG (s.1 8) (s.1 11) (s.2 6 28) (s.2 6 29) (if k12 = 0 then (3 : Int) else k12) (if k12 = 0 then k9 else k13) (s.1 13) (s.1 9) x1 := by
  obtain ⟨p0, p1, p2, p3, p4, p5, p6, p7, p8⟩ := hp
  (try simp only [Int.add_zero, Int.reduceAdd, bI_0, bI_n, Classical.not_not, p3, true_and] at *)
  (try (have h2 := hI; clear hI; obtain ⟨⟨a1, a2, a3, a4, a5⟩, ⟨b1, b2, b3, b4, b5⟩, hJ⟩ := h2; subst a1 a2 a3 a4 a5 b1 b2 b3 b4 b5))
  (try (have h4 := hJ; obtain ⟨⟨d1, d2⟩, ⟨d3, d4⟩, hd⟩ := h4; clear hJ; subst d1 d2))
  (try simp only [Int.reduceEq, ↓reduceIte] at *)
  (try (have h3 := hJ; clear hJ; obtain ⟨hd, hg⟩ := h3))
  (try have g := hg.resolve_right (fun h => h.1 (by assumption)))
  (try have g := hg.resolve_left (fun h => absurd h.1 (by assumption)))
  (try (have c0 : k12 = 0 := c_1; subst c0))
  (try (have y := g.2.2.resolve_left (fun h => by omega); clear g hg; try clear o_22; try clear o_36; try clear o_57))
  (try (have y := g.2.2.resolve_right (fun h => by omega); clear g hg; try clear o_22; try clear o_36; try clear o_57))
  (try have ex := enx_b (t := s.2 4) p1)
  (try have q181 := q_18.1.1)
  (try have q311 := q_31.1.1)
  (try have q541 := q_54.1)
  (try have q661 := q_66.1.1)
  (try simp (disch := omega) only [i32_id] at *)
  (try unfold lex3)
  (try simp only [bI_0, bI_n, Classical.not_not] at *)
  (try simp (disch := omega) only [i32_id] at *)
  first | done | omega | ((repeat' (with_reducible apply And.intro)) <;> first | (show lnQ _ _ _ _ _ _ _ _ _ _ _ _ _ _ _ _; have hx : x1 = 0 := c_4; exact lnQ_n y.2.1 y.2.2 rfl q_18 (by rw [rep_h (i := 5) (by decide), rep_t (i := s.2 6 29) rfl]; rfl)) | (show lnQ _ _ _ _ _ _ _ _ _ _ _ _ _ _ _ _; have hx : ¬ x1 = 0 := c_4; exact lnQ_s1 y.2.1 y.2.2 q_31 (by assumption)) | (show lnQ _ _ _ _ _ _ _ _ _ _ _ _ _ _ _ _; have hx : ¬ x1 = 0 := c_4; exact lnQ_s2 y.2.1 y.2.2 q_31 (by assumption) q_54 (by assumption)) | (show lnQ _ _ _ _ _ _ _ _ _ _ _ _ _ _ _ _; have hx : ¬ x1 = 0 := c_4; exact lnQ_s3 y.2.1 y.2.2 q_31 (by assumption) q_54 (by assumption) q_66 (fun w v w2 v2 hx => by rw [rep_h (i := 4) (by decide), hx, rep_s (i := 4 * s.2 6 28 + 3) (by omega), rep_s (i := 4 * s.2 6 28 + 2) (by omega), rep_s (i := 4 * s.2 6 28 + 1) (by omega), rep_s (i := 4 * s.2 6 28) (by omega)]; rfl)) | (show lnQ _ _ _ _ _ _ _ _ _ _ _ _ _ _ _ _; exact lnQ_bad ⟨by omega, by omega⟩ hd g.2.2 g.2.1) | (exact lnG_a hd d3 (by assumption) (by assumption)) | (exact lnG_b hd d3 (by assumption) (by assumption)) | (exact lnG_c hd d4 (by assumption) (by assumption)) | (exact lnG_d hd d4 (by assumption) (by assumption) (by assumption)) | (exact lnG_e hd d3 d4 (by assumption) (by assumption)) | (exact lnG_x d3 d4 (by assumption) (by assumption)) | assumption | rfl | omega | (show lnQ _ _ _ _ _ _ _ _ _ _ _ _ _ _ _ _; exact lnQ_do q_16.1 (by omega) (by omega)) | (intro z hz; exact q_16.2.1 z (by omega)) | (exact q_16.2.2.1) | (intro z hz; rw [upI_n _ _ (by omega)]) | (intro z hz; rfl) | (intro z hz; rw [q_66.2.2.1 z (by omega) (by omega), q_31.2.2.1 z (by omega) (by omega)]) | (intro z hz; exact q_31.2.2.1 z (by omega) (by omega)) | grind [upI])
theorem vX3_line_34 (s : MS) (hp : 0 ≤ (s.1 7) ∧ (s.1 7) ≤ (s.1 6) ∧ (s.1 6) ≤ 800 ∧ (s.1 12) = 0 ∧ (0 ≤ (s.2 6) 24 ∧ (s.2 6) 24 ≤ 100) ∧ ((s.1 21) = 0 → (s.2 6) 27 = 0) ∧ (0 ≤ (s.2 6) 28 ∧ (s.2 6) 28 ≤ 6) ∧ (0 ≤ (s.2 6) 29 ∧ (s.2 6) 29 ≤ 20) ∧ (0 ≤ (s.2 6) 26 ∧ (s.2 6) 26 ≤ 200000)) (x1 : Int) (x2 : Int) (f6 : Int → Int) (f7 : Int → Int) (f8 : Int → Int) (f9 : Int → Int) (k7 : Int) (k8 : Int) (k9 : Int) (k10 : Int) (k11 : Int) (k12 : Int) (k13 : Int) (k21 : Int) (hI : (k7 = s.1 7 ∧ k8 = s.1 8 ∧ k9 = s.1 9 ∧ k10 = s.1 10 ∧ k11 = s.1 11) ∧ (f6 = s.2 6 ∧ f7 = s.2 7 ∧ f8 = s.2 8 ∧ f9 = s.2 9 ∧ k21 = s.1 21) ∧ (k12 = 0 ∧ k13 = s.1 13) ∧ (x1 = bI (s.1 8 = 1 ∧ s.1 11 = 382984) ∧ x2 = bI (s.1 8 = 1 ∧ s.1 11 = 212302449)) ∧ ¬ (s.1 8 = 1 ∧ s.1 11 = 2427955)) (c_1 : x1 = 0) (c_17 : ¬ x2 = 0) (c_18 : ¬ x1 = 0) (o_24 : (0 ≤ (4 : Int) ∧ (4 : Int) < 6)) (c_26 : ¬ (f6 (24 + (4 : Int))) = 6) (c_28 : ¬ x2 = 0) (o_29 : (0 ≤ (5 : Int) ∧ (5 : Int) < 6)) (c_31 : (f6 (24 + (5 : Int))) = 20) : lex3 0 0 0 0 0 1 := by
  obtain ⟨p0, p1, p2, p3, p4, p5, p6, p7, p8⟩ := hp
  (try simp only [Int.add_zero, Int.reduceAdd, bI_0, bI_n, Classical.not_not, p3, true_and] at *)
  (try (have h2 := hI; clear hI; obtain ⟨⟨a1, a2, a3, a4, a5⟩, ⟨b1, b2, b3, b4, b5⟩, hJ⟩ := h2; subst a1 a2 a3 a4 a5 b1 b2 b3 b4 b5))
  (try (have h4 := hJ; obtain ⟨⟨d1, d2⟩, ⟨d3, d4⟩, hd⟩ := h4; clear hJ; subst d1 d2))
  (try simp only [Int.reduceEq, ↓reduceIte] at *)
  (try (have h3 := hJ; clear hJ; obtain ⟨hd, hg⟩ := h3))
  (try have g := hg.resolve_right (fun h => h.1 (by assumption)))
  (try have g := hg.resolve_left (fun h => absurd h.1 (by assumption)))
  (try (have c0 : k12 = 0 := c_1; subst c0))
  (try (have y := g.2.2.resolve_left (fun h => by omega); clear g hg; try clear o_22; try clear o_36; try clear o_57))
  (try (have y := g.2.2.resolve_right (fun h => by omega); clear g hg; try clear o_22; try clear o_36; try clear o_57))
  (try have ex := enx_b (t := s.2 4) p1)
  (try have q181 := q_18.1.1)
  (try have q311 := q_31.1.1)
  (try have q541 := q_54.1)
  (try have q661 := q_66.1.1)
  (try simp (disch := omega) only [i32_id] at *)
  (try unfold lex3)
  (try simp only [bI_0, bI_n, Classical.not_not] at *)
  (try simp (disch := omega) only [i32_id] at *)
  first | done | omega | ((repeat' (with_reducible apply And.intro)) <;> first | (show lnQ _ _ _ _ _ _ _ _ _ _ _ _ _ _ _ _; have hx : x1 = 0 := c_4; exact lnQ_n y.2.1 y.2.2 rfl q_18 (by rw [rep_h (i := 5) (by decide), rep_t (i := s.2 6 29) rfl]; rfl)) | (show lnQ _ _ _ _ _ _ _ _ _ _ _ _ _ _ _ _; have hx : ¬ x1 = 0 := c_4; exact lnQ_s1 y.2.1 y.2.2 q_31 (by assumption)) | (show lnQ _ _ _ _ _ _ _ _ _ _ _ _ _ _ _ _; have hx : ¬ x1 = 0 := c_4; exact lnQ_s2 y.2.1 y.2.2 q_31 (by assumption) q_54 (by assumption)) | (show lnQ _ _ _ _ _ _ _ _ _ _ _ _ _ _ _ _; have hx : ¬ x1 = 0 := c_4; exact lnQ_s3 y.2.1 y.2.2 q_31 (by assumption) q_54 (by assumption) q_66 (fun w v w2 v2 hx => by rw [rep_h (i := 4) (by decide), hx, rep_s (i := 4 * s.2 6 28 + 3) (by omega), rep_s (i := 4 * s.2 6 28 + 2) (by omega), rep_s (i := 4 * s.2 6 28 + 1) (by omega), rep_s (i := 4 * s.2 6 28) (by omega)]; rfl)) | (show lnQ _ _ _ _ _ _ _ _ _ _ _ _ _ _ _ _; exact lnQ_bad ⟨by omega, by omega⟩ hd g.2.2 g.2.1) | (exact lnG_a hd d3 (by assumption) (by assumption)) | (exact lnG_b hd d3 (by assumption) (by assumption)) | (exact lnG_c hd d4 (by assumption) (by assumption)) | (exact lnG_d hd d4 (by assumption) (by assumption) (by assumption)) | (exact lnG_e hd d3 d4 (by assumption) (by assumption)) | (exact lnG_x d3 d4 (by assumption) (by assumption)) | assumption | rfl | omega | (show lnQ _ _ _ _ _ _ _ _ _ _ _ _ _ _ _ _; exact lnQ_do q_16.1 (by omega) (by omega)) | (intro z hz; exact q_16.2.1 z (by omega)) | (exact q_16.2.2.1) | (intro z hz; rw [upI_n _ _ (by omega)]) | (intro z hz; rfl) | (intro z hz; rw [q_66.2.2.1 z (by omega) (by omega), q_31.2.2.1 z (by omega) (by omega)]) | (intro z hz; exact q_31.2.2.1 z (by omega) (by omega)) | grind [upI])
theorem vX3_line_35 (s : MS) (hp : 0 ≤ (s.1 7) ∧ (s.1 7) ≤ (s.1 6) ∧ (s.1 6) ≤ 800 ∧ (s.1 12) = 0 ∧ (0 ≤ (s.2 6) 24 ∧ (s.2 6) 24 ≤ 100) ∧ ((s.1 21) = 0 → (s.2 6) 27 = 0) ∧ (0 ≤ (s.2 6) 28 ∧ (s.2 6) 28 ≤ 6) ∧ (0 ≤ (s.2 6) 29 ∧ (s.2 6) 29 ≤ 20) ∧ (0 ≤ (s.2 6) 26 ∧ (s.2 6) 26 ≤ 200000)) (x1 : Int) (x2 : Int) (f6 : Int → Int) (f7 : Int → Int) (f8 : Int → Int) (f9 : Int → Int) (k7 : Int) (k8 : Int) (k9 : Int) (k10 : Int) (k11 : Int) (k12 : Int) (k13 : Int) (k21 : Int) (hI : (k7 = s.1 7 ∧ k8 = s.1 8 ∧ k9 = s.1 9 ∧ k10 = s.1 10 ∧ k11 = s.1 11) ∧ (f6 = s.2 6 ∧ f7 = s.2 7 ∧ f8 = s.2 8 ∧ f9 = s.2 9 ∧ k21 = s.1 21) ∧ (k12 = 0 ∧ k13 = s.1 13) ∧ (x1 = bI (s.1 8 = 1 ∧ s.1 11 = 382984) ∧ x2 = bI (s.1 8 = 1 ∧ s.1 11 = 212302449)) ∧ ¬ (s.1 8 = 1 ∧ s.1 11 = 2427955)) (c_1 : x1 = 0) (c_17 : x2 = 0) (c_34 : x1 = 0) (c_35 : x2 = 0) : (k7 = s.1 7 ∧ k8 = s.1 8 ∧ k9 = s.1 9 ∧ k10 = s.1 10 ∧ k11 = s.1 11) ∧ (f6 = s.2 6 ∧ f7 = s.2 7 ∧ f8 = s.2 8 ∧ f9 = s.2 9 ∧ k21 = s.1 21) ∧ lnG (s.1 8) (s.1 11) (s.2 6 28) (s.2 6 29) (if k12 = 0 then (1 : Int) else k12) (if k12 = 0 then k9 else k13) (s.1 13) (s.1 9) x1 := by
  obtain ⟨p0, p1, p2, p3, p4, p5, p6, p7, p8⟩ := hp
  (try simp only [Int.add_zero, Int.reduceAdd, bI_0, bI_n, Classical.not_not, p3, true_and] at *)
  (try (have h2 := hI; clear hI; obtain ⟨⟨a1, a2, a3, a4, a5⟩, ⟨b1, b2, b3, b4, b5⟩, hJ⟩ := h2; subst a1 a2 a3 a4 a5 b1 b2 b3 b4 b5))
  (try (have h4 := hJ; obtain ⟨⟨d1, d2⟩, ⟨d3, d4⟩, hd⟩ := h4; clear hJ; subst d1 d2))
  (try simp only [Int.reduceEq, ↓reduceIte] at *)
  (try (have h3 := hJ; clear hJ; obtain ⟨hd, hg⟩ := h3))
  (try have g := hg.resolve_right (fun h => h.1 (by assumption)))
  (try have g := hg.resolve_left (fun h => absurd h.1 (by assumption)))
  (try (have c0 : k12 = 0 := c_1; subst c0))
  (try (have y := g.2.2.resolve_left (fun h => by omega); clear g hg; try clear o_22; try clear o_36; try clear o_57))
  (try (have y := g.2.2.resolve_right (fun h => by omega); clear g hg; try clear o_22; try clear o_36; try clear o_57))
  (try have ex := enx_b (t := s.2 4) p1)
  (try have q181 := q_18.1.1)
  (try have q311 := q_31.1.1)
  (try have q541 := q_54.1)
  (try have q661 := q_66.1.1)
  (try simp (disch := omega) only [i32_id] at *)
  (try unfold lex3)
  (try simp only [bI_0, bI_n, Classical.not_not] at *)
  (try simp (disch := omega) only [i32_id] at *)
  first | done | omega | ((repeat' (with_reducible apply And.intro)) <;> first | (show lnQ _ _ _ _ _ _ _ _ _ _ _ _ _ _ _ _; have hx : x1 = 0 := c_4; exact lnQ_n y.2.1 y.2.2 rfl q_18 (by rw [rep_h (i := 5) (by decide), rep_t (i := s.2 6 29) rfl]; rfl)) | (show lnQ _ _ _ _ _ _ _ _ _ _ _ _ _ _ _ _; have hx : ¬ x1 = 0 := c_4; exact lnQ_s1 y.2.1 y.2.2 q_31 (by assumption)) | (show lnQ _ _ _ _ _ _ _ _ _ _ _ _ _ _ _ _; have hx : ¬ x1 = 0 := c_4; exact lnQ_s2 y.2.1 y.2.2 q_31 (by assumption) q_54 (by assumption)) | (show lnQ _ _ _ _ _ _ _ _ _ _ _ _ _ _ _ _; have hx : ¬ x1 = 0 := c_4; exact lnQ_s3 y.2.1 y.2.2 q_31 (by assumption) q_54 (by assumption) q_66 (fun w v w2 v2 hx => by rw [rep_h (i := 4) (by decide), hx, rep_s (i := 4 * s.2 6 28 + 3) (by omega), rep_s (i := 4 * s.2 6 28 + 2) (by omega), rep_s (i := 4 * s.2 6 28 + 1) (by omega), rep_s (i := 4 * s.2 6 28) (by omega)]; rfl)) | (show lnQ _ _ _ _ _ _ _ _ _ _ _ _ _ _ _ _; exact lnQ_bad ⟨by omega, by omega⟩ hd g.2.2 g.2.1) | (exact lnG_a hd d3 (by assumption) (by assumption)) | (exact lnG_b hd d3 (by assumption) (by assumption)) | (exact lnG_c hd d4 (by assumption) (by assumption)) | (exact lnG_d hd d4 (by assumption) (by assumption) (by assumption)) | (exact lnG_e hd d3 d4 (by assumption) (by assumption)) | (exact lnG_x d3 d4 (by assumption) (by assumption)) | assumption | rfl | omega | (show lnQ _ _ _ _ _ _ _ _ _ _ _ _ _ _ _ _; exact lnQ_do q_16.1 (by omega) (by omega)) | (intro z hz; exact q_16.2.1 z (by omega)) | (exact q_16.2.2.1) | (intro z hz; rw [upI_n _ _ (by omega)]) | (intro z hz; rfl) | (intro z hz; rw [q_66.2.2.1 z (by omega) (by omega), q_31.2.2.1 z (by omega) (by omega)]) | (intro z hz; exact q_31.2.2.1 z (by omega) (by omega)) | grind [upI])
theorem vX3_line_36 (s : MS) (hp : 0 ≤ (s.1 7) ∧ (s.1 7) ≤ (s.1 6) ∧ (s.1 6) ≤ 800 ∧ (s.1 12) = 0 ∧ (0 ≤ (s.2 6) 24 ∧ (s.2 6) 24 ≤ 100) ∧ ((s.1 21) = 0 → (s.2 6) 27 = 0) ∧ (0 ≤ (s.2 6) 28 ∧ (s.2 6) 28 ≤ 6) ∧ (0 ≤ (s.2 6) 29 ∧ (s.2 6) 29 ≤ 20) ∧ (0 ≤ (s.2 6) 26 ∧ (s.2 6) 26 ≤ 200000)) (x1 : Int) (x2 : Int) (f6 : Int → Int) (f7 : Int → Int) (f8 : Int → Int) (f9 : Int → Int) (k7 : Int) (k8 : Int) (k9 : Int) (k10 : Int) (k11 : Int) (k12 : Int) (k13 : Int) (k21 : Int) (hI : (k7 = s.1 7 ∧ k8 = s.1 8 ∧ k9 = s.1 9 ∧ k10 = s.1 10 ∧ k11 = s.1 11) ∧ (f6 = s.2 6 ∧ f7 = s.2 7 ∧ f8 = s.2 8 ∧ f9 = s.2 9 ∧ k21 = s.1 21) ∧ (k12 = 0 ∧ k13 = s.1 13) ∧ (x1 = bI (s.1 8 = 1 ∧ s.1 11 = 382984) ∧ x2 = bI (s.1 8 = 1 ∧ s.1 11 = 212302449)) ∧ ¬ (s.1 8 = 1 ∧ s.1 11 = 2427955)) (c_1 : x1 = 0) (c_17 : x2 = 0) (c_34 : x1 = 0) (c_35 : x2 = 0) : lex3 0 0 0 0 0 1 := by
  obtain ⟨p0, p1, p2, p3, p4, p5, p6, p7, p8⟩ := hp
  (try simp only [Int.add_zero, Int.reduceAdd, bI_0, bI_n, Classical.not_not, p3, true_and] at *)
  (try (have h2 := hI; clear hI; obtain ⟨⟨a1, a2, a3, a4, a5⟩, ⟨b1, b2, b3, b4, b5⟩, hJ⟩ := h2; subst a1 a2 a3 a4 a5 b1 b2 b3 b4 b5))
  (try (have h4 := hJ; obtain ⟨⟨d1, d2⟩, ⟨d3, d4⟩, hd⟩ := h4; clear hJ; subst d1 d2))
  (try simp only [Int.reduceEq, ↓reduceIte] at *)
  (try (have h3 := hJ; clear hJ; obtain ⟨hd, hg⟩ := h3))
  (try have g := hg.resolve_right (fun h => h.1 (by assumption)))
  (try have g := hg.resolve_left (fun h => absurd h.1 (by assumption)))
  (try (have c0 : k12 = 0 := c_1; subst c0))
  (try (have y := g.2.2.resolve_left (fun h => by omega); clear g hg; try clear o_22; try clear o_36; try clear o_57))
  (try (have y := g.2.2.resolve_right (fun h => by omega); clear g hg; try clear o_22; try clear o_36; try clear o_57))
  (try have ex := enx_b (t := s.2 4) p1)
  (try have q181 := q_18.1.1)
  (try have q311 := q_31.1.1)
  (try have q541 := q_54.1)
  (try have q661 := q_66.1.1)
  (try simp (disch := omega) only [i32_id] at *)
  (try unfold lex3)
  (try simp only [bI_0, bI_n, Classical.not_not] at *)
  (try simp (disch := omega) only [i32_id] at *)
  first | done | omega | ((repeat' (with_reducible apply And.intro)) <;> first | (show lnQ _ _ _ _ _ _ _ _ _ _ _ _ _ _ _ _; have hx : x1 = 0 := c_4; exact lnQ_n y.2.1 y.2.2 rfl q_18 (by rw [rep_h (i := 5) (by decide), rep_t (i := s.2 6 29) rfl]; rfl)) | (show lnQ _ _ _ _ _ _ _ _ _ _ _ _ _ _ _ _; have hx : ¬ x1 = 0 := c_4; exact lnQ_s1 y.2.1 y.2.2 q_31 (by assumption)) | (show lnQ _ _ _ _ _ _ _ _ _ _ _ _ _ _ _ _; have hx : ¬ x1 = 0 := c_4; exact lnQ_s2 y.2.1 y.2.2 q_31 (by assumption) q_54 (by assumption)) | (show lnQ _ _ _ _ _ _ _ _ _ _ _ _ _ _ _ _; have hx : ¬ x1 = 0 := c_4; exact lnQ_s3 y.2.1 y.2.2 q_31 (by assumption) q_54 (by assumption) q_66 (fun w v w2 v2 hx => by rw [rep_h (i := 4) (by decide), hx, rep_s (i := 4 * s.2 6 28 + 3) (by omega), rep_s (i := 4 * s.2 6 28 + 2) (by omega), rep_s (i := 4 * s.2 6 28 + 1) (by omega), rep_s (i := 4 * s.2 6 28) (by omega)]; rfl)) | (show lnQ _ _ _ _ _ _ _ _ _ _ _ _ _ _ _ _; exact lnQ_bad ⟨by omega, by omega⟩ hd g.2.2 g.2.1) | (exact lnG_a hd d3 (by assumption) (by assumption)) | (exact lnG_b hd d3 (by assumption) (by assumption)) | (exact lnG_c hd d4 (by assumption) (by assumption)) | (exact lnG_d hd d4 (by assumption) (by assumption) (by assumption)) | (exact lnG_e hd d3 d4 (by assumption) (by assumption)) | (exact lnG_x d3 d4 (by assumption) (by assumption)) | assumption | rfl | omega | (show lnQ _ _ _ _ _ _ _ _ _ _ _ _ _ _ _ _; exact lnQ_do q_16.1 (by omega) (by omega)) | (intro z hz; exact q_16.2.1 z (by omega)) | (exact q_16.2.2.1) | (intro z hz; rw [upI_n _ _ (by omega)]) | (intro z hz; rfl) | (intro z hz; rw [q_66.2.2.1 z (by omega) (by omega), q_31.2.2.1 z (by omega) (by omega)]) | (intro z hz; exact q_31.2.2.1 z (by omega) (by omega)) | grind [upI])
theorem vX3_line_37 (s : MS) (hp : 0 ≤ (s.1 7) ∧ (s.1 7) ≤ (s.1 6) ∧ (s.1 6) ≤ 800 ∧ (s.1 12) = 0 ∧ (0 ≤ (s.2 6) 24 ∧ (s.2 6) 24 ≤ 100) ∧ ((s.1 21) = 0 → (s.2 6) 27 = 0) ∧ (0 ≤ (s.2 6) 28 ∧ (s.2 6) 28 ≤ 6) ∧ (0 ≤ (s.2 6) 29 ∧ (s.2 6) 29 ≤ 20) ∧ (0 ≤ (s.2 6) 26 ∧ (s.2 6) 26 ≤ 200000)) (x1 : Int) (x2 : Int) (f6 : Int → Int) (f7 : Int → Int) (f8 : Int → Int) (f9 : Int → Int) (k7 : Int) (k8 : Int) (k9 : Int) (k10 : Int) (k11 : Int) (k12 : Int) (k13 : Int) (k21 : Int) (hI : (k7 = s.1 7 ∧ k8 = s.1 8 ∧ k9 = s.1 9 ∧ k10 = s.1 10 ∧ k11 = s.1 11) ∧ (f6 = s.2 6 ∧ f7 = s.2 7 ∧ f8 = s.2 8 ∧ f9 = s.2 9 ∧ k21 = s.1 21) ∧ (k12 = 0 ∧ k13 = s.1 13) ∧ (x1 = bI (s.1 8 = 1 ∧ s.1 11 = 382984) ∧ x2 = bI (s.1 8 = 1 ∧ s.1 11 = 212302449)) ∧ ¬ (s.1 8 = 1 ∧ s.1 11 = 2427955)) (c_1 : x1 = 0) (c_17 : x2 = 0) (c_34 : x1 = 0) (c_35 : ¬ x2 = 0) : (0 ≤ (5 : Int) ∧ (5 : Int) < 6) := by
  obtain ⟨p0, p1, p2, p3, p4, p5, p6, p7, p8⟩ := hp
  (try simp only [Int.add_zero, Int.reduceAdd, bI_0, bI_n, Classical.not_not, p3, true_and] at *)
  (try (have h2 := hI; clear hI; obtain ⟨⟨a1, a2, a3, a4, a5⟩, ⟨b1, b2, b3, b4, b5⟩, hJ⟩ := h2; subst a1 a2 a3 a4 a5 b1 b2 b3 b4 b5))
  (try (have h4 := hJ; obtain ⟨⟨d1, d2⟩, ⟨d3, d4⟩, hd⟩ := h4; clear hJ; subst d1 d2))
  (try simp only [Int.reduceEq, ↓reduceIte] at *)
  (try (have h3 := hJ; clear hJ; obtain ⟨hd, hg⟩ := h3))
  (try have g := hg.resolve_right (fun h => h.1 (by assumption)))
  (try have g := hg.resolve_left (fun h => absurd h.1 (by assumption)))
  (try (have c0 : k12 = 0 := c_1; subst c0))
  (try (have y := g.2.2.resolve_left (fun h => by omega); clear g hg; try clear o_22; try clear o_36; try clear o_57))
  (try (have y := g.2.2.resolve_right (fun h => by omega); clear g hg; try clear o_22; try clear o_36; try clear o_57))
  (try have ex := enx_b (t := s.2 4) p1)
  (try have q181 := q_18.1.1)
  (try have q311 := q_31.1.1)
  (try have q541 := q_54.1)
  (try have q661 := q_66.1.1)
  (try simp (disch := omega) only [i32_id] at *)
  (try unfold lex3)
  (try simp only [bI_0, bI_n, Classical.not_not] at *)
  (try simp (disch := omega) only [i32_id] at *)
  first | done | omega | ((repeat' (with_reducible apply And.intro)) <;> first | (show lnQ _ _ _ _ _ _ _ _ _ _ _ _ _ _ _ _; have hx : x1 = 0 := c_4; exact lnQ_n y.2.1 y.2.2 rfl q_18 (by rw [rep_h (i := 5) (by decide), rep_t (i := s.2 6 29) rfl]; rfl)) | (show lnQ _ _ _ _ _ _ _ _ _ _ _ _ _ _ _ _; have hx : ¬ x1 = 0 := c_4; exact lnQ_s1 y.2.1 y.2.2 q_31 (by assumption)) | (show lnQ _ _ _ _ _ _ _ _ _ _ _ _ _ _ _ _; have hx : ¬ x1 = 0 := c_4; exact lnQ_s2 y.2.1 y.2.2 q_31 (by assumption) q_54 (by assumption)) | (show lnQ _ _ _ _ _ _ _ _ _ _ _ _ _ _ _ _; have hx : ¬ x1 = 0 := c_4; exact lnQ_s3 y.2.1 y.2.2 q_31 (by assumption) q_54 (by assumption) q_66 (fun w v w2 v2 hx => by rw [rep_h (i := 4) (by decide), hx, rep_s (i := 4 * s.2 6 28 + 3) (by omega), rep_s (i := 4 * s.2 6 28 + 2) (by omega), rep_s (i := 4 * s.2 6 28 + 1) (by omega), rep_s (i := 4 * s.2 6 28) (by omega)]; rfl)) | (show lnQ _ _ _ _ _ _ _ _ _ _ _ _ _ _ _ _; exact lnQ_bad ⟨by omega, by omega⟩ hd g.2.2 g.2.1) | (exact lnG_a hd d3 (by assumption) (by assumption)) | (exact lnG_b hd d3 (by assumption) (by assumption)) | (exact lnG_c hd d4 (by assumption) (by assumption)) | (exact lnG_d hd d4 (by assumption) (by assumption) (by assumption)) | (exact lnG_e hd d3 d4 (by assumption) (by assumption)) | (exact lnG_x d3 d4 (by assumption) (by assumption)) | assumption | rfl | omega | (show lnQ _ _ _ _ _ _ _ _ _ _ _ _ _ _ _ _; exact lnQ_do q_16.1 (by omega) (by omega)) | (intro z hz; exact q_16.2.1 z (by omega)) | (exact q_16.2.2.1) | (intro z hz; rw [upI_n _ _ (by omega)]) | (intro z hz; rfl) | (intro z hz; rw [q_66.2.2.1 z (by omega) (by omega), q_31.2.2.1 z (by omega) (by omega)]) | (intro z hz; exact q_31.2.2.1 z (by omega) (by omega)) | grind [upI])
theorem vX3_line_38 (s : MS) (hp : 0 ≤ (s.1 7) ∧ (s.1 7) ≤ (s.1 6) ∧ (s.1 6) ≤ 800 ∧ (s.1 12) = 0 ∧ (0 ≤ (s.2 6) 24 ∧ (s.2 6) 24 ≤ 100) ∧ ((s.1 21) = 0 → (s.2 6) 27 = 0) ∧ (0 ≤ (s.2 6) 28 ∧ (s.2 6) 28 ≤ 6) ∧ (0 ≤ (s.2 6) 29 ∧ (s.2 6) 29 ≤ 20) ∧ (0 ≤ (s.2 6) 26 ∧ (s.2 6) 26 ≤ 200000)) (x1 : Int) (x2 : Int) (f6 : Int → Int) (f7 : Int → Int) (f8 : Int → Int) (f9 : Int → Int) (k7 : Int) (k8 : Int) (k9 : Int) (k10 : Int) (k11 : Int) (k12 : Int) (k13 : Int) (k21 : Int) (hI : (k7 = s.1 7 ∧ k8 = s.1 8 ∧ k9 = s.1 9 ∧ k10 = s.1 10 ∧ k11 = s.1 11) ∧ (f6 = s.2 6 ∧ f7 = s.2 7 ∧ f8 = s.2 8 ∧ f9 = s.2 9 ∧ k21 = s.1 21) ∧ (k12 = 0 ∧ k13 = s.1 13) ∧ (x1 = bI (s.1 8 = 1 ∧ s.1 11 = 382984) ∧ x2 = bI (s.1 8 = 1 ∧ s.1 11 = 212302449)) ∧ ¬ (s.1 8 = 1 ∧ s.1 11 = 2427955)) (c_1 : x1 = 0) (c_17 : x2 = 0) (c_34 : x1 = 0) (c_35 : ¬ x2 = 0) (o_36 : (0 ≤ (5 : Int) ∧ (5 : Int) < 6)) (c_38 : ¬ (f6 (24 + (5 : Int))) = 20) : (k7 = s.1 7 ∧ k8 = s.1 8 ∧ k9 = s.1 9 ∧ k10 = s.1 10 ∧ k11 = s.1 11) ∧ (f6 = s.2 6 ∧ f7 = s.2 7 ∧ f8 = s.2 8 ∧ f9 = s.2 9 ∧ k21 = s.1 21) ∧ lnG (s.1 8) (s.1 11) (s.2 6 28) (s.2 6 29) (if k12 = 0 then (1 : Int) else k12) (if k12 = 0 then k9 else k13) (s.1 13) (s.1 9) x1 := by
  obtain ⟨p0, p1, p2, p3, p4, p5, p6, p7, p8⟩ := hp
  (try simp only [Int.add_zero, Int.reduceAdd, bI_0, bI_n, Classical.not_not, p3, true_and] at *)
  (try (have h2 := hI; clear hI; obtain ⟨⟨a1, a2, a3, a4, a5⟩, ⟨b1, b2, b3, b4, b5⟩, hJ⟩ := h2; subst a1 a2 a3 a4 a5 b1 b2 b3 b4 b5))
  (try (have h4 := hJ; obtain ⟨⟨d1, d2⟩, ⟨d3, d4⟩, hd⟩ := h4; clear hJ; subst d1 d2))
  (try simp only [Int.reduceEq, ↓reduceIte] at *)
  (try (have h3 := hJ; clear hJ; obtain ⟨hd, hg⟩ := h3))
  (try have g := hg.resolve_right (fun h => h.1 (by assumption)))
  (try have g := hg.resolve_left (fun h => absurd h.1 (by assumption)))
  (try (have c0 : k12 = 0 := c_1; subst c0))
  (try (have y := g.2.2.resolve_left (fun h => by omega); clear g hg; try clear o_22; try clear o_36; try clear o_57))
  (try (have y := g.2.2.resolve_right (fun h => by omega); clear g hg; try clear o_22; try clear o_36; try clear o_57))
  (try have ex := enx_b (t := s.2 4) p1)
  (try have q181 := q_18.1.1)
  (try have q311 := q_31.1.1)
  (try have q541 := q_54.1)
  (try have q661 := q_66.1.1)
  (try simp (disch := omega) only [i32_id] at *)
  (try unfold lex3)
  (try simp only [bI_0, bI_n, Classical.not_not] at *)
  (try simp (disch := omega) only [i32_id] at *)
  first | done | omega | ((repeat' (with_reducible apply And.intro)) <;> first | (show lnQ _ _ _ _ _ _ _ _ _ _ _ _ _ _ _ _; have hx : x1 = 0 := c_4; exact lnQ_n y.2.1 y.2.2 rfl q_18 (by rw [rep_h (i := 5) (by decide), rep_t (i := s.2 6 29) rfl]; rfl)) | (show lnQ _ _ _ _ _ _ _ _ _ _ _ _ _ _ _ _; have hx : ¬ x1 = 0 := c_4; exact lnQ_s1 y.2.1 y.2.2 q_31 (by assumption)) | (show lnQ _ _ _ _ _ _ _ _ _ _ _ _ _ _ _ _; have hx : ¬ x1 = 0 := c_4; exact lnQ_s2 y.2.1 y.2.2 q_31 (by assumption) q_54 (by assumption)) | (show lnQ _ _ _ _ _ _ _ _ _ _ _ _ _ _ _ _; have hx : ¬ x1 = 0 := c_4; exact lnQ_s3 y.2.1 y.2.2 q_31 (by assumption) q_54 (by assumption) q_66 (fun w v w2 v2 hx => by rw [rep_h (i := 4) (by decide), hx, rep_s (i := 4 * s.2 6 28 + 3) (by omega), rep_s (i := 4 * s.2 6 28 + 2) (by omega), rep_s (i := 4 * s.2 6 28 + 1) (by omega), rep_s (i := 4 * s.2 6 28) (by omega)]; rfl)) | (show lnQ _ _ _ _ _ _ _ _ _ _ _ _ _ _ _ _; exact lnQ_bad ⟨by omega, by omega⟩ hd g.2.2 g.2.1) | (exact lnG_a hd d3 (by assumption) (by assumption)) | (exact lnG_b hd d3 (by assumption) (by assumption)) | (exact lnG_c hd d4 (by assumption) (by assumption)) | (exact lnG_d hd d4 (by assumption) (by assumption) (by assumption)) | (exact lnG_e hd d3 d4 (by assumption) (by assumption)) | (exact lnG_x d3 d4 (by assumption) (by assumption)) | assumption | rfl | omega | (show lnQ _ _ _ _ _ _ _ _ _ _ _ _ _ _ _ _; exact lnQ_do q_16.1 (by omega) (by omega)) | (intro z hz; exact q_16.2.1 z (by omega)) | (exact q_16.2.2.1) | (intro z hz; rw [upI_n _ _ (by omega)]) | (intro z hz; rfl) | (intro z hz; rw [q_66.2.2.1 z (by omega) (by omega), q_31.2.2.1 z (by omega) (by omega)]) | (intro z hz; exact q_31.2.2.1 z (by omega) (by omega)) | grind [upI])
theorem vX3_line_39 (s : MS) (hp : 0 ≤ (s.1 7) ∧ (s.1 7) ≤ (s.1 6) ∧ (s.1 6) ≤ 800 ∧ (s.1 12) = 0 ∧ (0 ≤ (s.2 6) 24 ∧ (s.2 6) 24 ≤ 100) ∧ ((s.1 21) = 0 → (s.2 6) 27 = 0) ∧ (0 ≤ (s.2 6) 28 ∧ (s.2 6) 28 ≤ 6) ∧ (0 ≤ (s.2 6) 29 ∧ (s.2 6) 29 ≤ 20) ∧ (0 ≤ (s.2 6) 26 ∧ (s.2 6) 26 ≤ 200000)) (x1 : Int) (x2 : Int) (f6 : Int → Int) (f7 : Int → Int) (f8 : Int → Int) (f9 : Int → Int) (k7 : Int) (k8 : Int) (k9 : Int) (k10 : Int) (k11 : Int) (k12 : Int) (k13 : Int) (k21 : Int) (hI : (k7 = s.1 7 ∧ k8 = s.1 8 ∧ k9 = s.1 9 ∧ k10 = s.1 10 ∧ k11 = s.1 11) ∧ (f6 = s.2 6 ∧ f7 = s.2 7 ∧ f8 = s.2 8 ∧ f9 = s.2 9 ∧ k21 = s.1 21) ∧ (k12 = 0 ∧ k13 = s.1 13) ∧ (x1 = bI (s.1 8 = 1 ∧ s.1 11 = 382984) ∧ x2 = bI (s.1 8 = 1 ∧ s.1 11 = 212302449)) ∧ ¬ (s.1 8 = 1 ∧ s.1 11 = 2427955)) (c_1 : x1 = 0) (c_17 : x2 = 0) (c_34 : x1 = 0) (c_35 : ¬ x2 = 0) (o_36 : (0 ≤ (5 : Int) ∧ (5 : Int) < 6)) (c_38 : ¬ (f6 (24 + (5 : Int))) = 20) : lex3 0 0 0 0 0 1 := by
  obtain ⟨p0, p1, p2, p3, p4, p5, p6, p7, p8⟩ := hp
  (try simp only [Int.add_zero, Int.reduceAdd, bI_0, bI_n, Classical.not_not, p3, true_and] at *)
  (try (have h2 := hI; clear hI; obtain ⟨⟨a1, a2, a3, a4, a5⟩, ⟨b1, b2, b3, b4, b5⟩, hJ⟩ := h2; subst a1 a2 a3 a4 a5 b1 b2 b3 b4 b5))
  (try (have h4 := hJ; obtain ⟨⟨d1, d2⟩, ⟨d3, d4⟩, hd⟩ := h4; clear hJ; subst d1 d2))
  (try simp only [Int.reduceEq, ↓reduceIte] at *)
  (try (have h3 := hJ; clear hJ; obtain ⟨hd, hg⟩ := h3))
  (try have g := hg.resolve_right (fun h => h.1 (by assumption)))
  (try have g := hg.resolve_left (fun h => absurd h.1 (by assumption)))
  (try (have c0 : k12 = 0 := c_1; subst c0))
  (try (have y := g.2.2.resolve_left (fun h => by omega); clear g hg; try clear o_22; try clear o_36; try clear o_57))
  (try (have y := g.2.2.resolve_right (fun h => by omega); clear g hg; try clear o_22; try clear o_36; try clear o_57))
  (try have ex := enx_b (t := s.2 4) p1)
  (try have q181 := q_18.1.1)
  (try have q311 := q_31.1.1)
  (try have q541 := q_54.1)
  (try have q661 := q_66.1.1)
  (try simp (disch := omega) only [i32_id] at *)
  (try unfold lex3)
  (try simp only [bI_0, bI_n, Classical.not_not] at *)
  (try simp (disch := omega) only [i32_id] at *)
  first | done | omega | ((repeat' (with_reducible apply And.intro)) <;> first | (show lnQ _ _ _ _ _ _ _ _ _ _ _ _ _ _ _ _; have hx : x1 = 0 := c_4; exact lnQ_n y.2.1 y.2.2 rfl q_18 (by rw [rep_h (i := 5) (by decide), rep_t (i := s.2 6 29) rfl]; rfl)) | (show lnQ _ _ _ _ _ _ _ _ _ _ _ _ _ _ _ _; have hx : ¬ x1 = 0 := c_4; exact lnQ_s1 y.2.1 y.2.2 q_31 (by assumption)) | (show lnQ _ _ _ _ _ _ _ _ _ _ _ _ _ _ _ _; have hx : ¬ x1 = 0 := c_4; exact lnQ_s2 y.2.1 y.2.2 q_31 (by assumption) q_54 (by assumption)) | (show lnQ _ _ _ _ _ _ _ _ _ _ _ _ _ _ _ _; have hx : ¬ x1 = 0 := c_4; exact lnQ_s3 y.2.1 y.2.2 q_31 (by assumption) q_54 (by assumption) q_66 (fun w v w2 v2 hx => by rw [rep_h (i := 4) (by decide), hx, rep_s (i := 4 * s.2 6 28 + 3) (by omega), rep_s (i := 4 * s.2 6 28 + 2) (by omega), rep_s (i := 4 * s.2 6 28 + 1) (by omega), rep_s (i := 4 * s.2 6 28) (by omega)]; rfl)) | (show lnQ _ _ _ _ _ _ _ _ _ _ _ _ _ _ _ _; exact lnQ_bad ⟨by omega, by omega⟩ hd g.2.2 g.2.1) | (exact lnG_a hd d3 (by assumption) (by assumption)) | (exact lnG_b hd d3 (by assumption) (by assumption)) | (exact lnG_c hd d4 (by assumption) (by assumption)) | (exact lnG_d hd d4 (by assumption) (by assumption) (by assumption)) | (exact lnG_e hd d3 d4 (by assumption) (by assumption)) | (exact lnG_x d3 d4 (by assumption) (by assumption)) | assumption | rfl | omega | (show lnQ _ _ _ _ _ _ _ _ _ _ _ _ _ _ _ _; exact lnQ_do q_16.1 (by omega) (by omega)) | (intro z hz; exact q_16.2.1 z (by omega)) | (exact q_16.2.2.1) | (intro z hz; rw [upI_n _ _ (by omega)]) | (intro z hz; rfl) | (intro z hz; rw [q_66.2.2.1 z (by omega) (by omega), q_31.2.2.1 z (by omega) (by omega)]) | (intro z hz; exact q_31.2.2.1 z (by omega) (by omega)) | grind [upI])
theorem vX3_line_40 (s : MS) (hp : 0 ≤ (s.1 7) ∧ (s.1 7) ≤ (s.1 6) ∧ (s.1 6) ≤ 800 ∧ (s.1 12) = 0 ∧ (0 ≤ (s.2 6) 24 ∧ (s.2 6) 24 ≤ 100) ∧ ((s.1 21) = 0 → (s.2 6) 27 = 0) ∧ (0 ≤ (s.2 6) 28 ∧ (s.2 6) 28 ≤ 6) ∧ (0 ≤ (s.2 6) 29 ∧ (s.2 6) 29 ≤ 20) ∧ (0 ≤ (s.2 6) 26 ∧ (s.2 6) 26 ≤ 200000)) (x1 : Int) (x2 : Int) (f6 : Int → Int) (f7 : Int → Int) (f8 : Int → Int) (f9 : Int → Int) (k7 : Int) (k8 : Int) (k9 : Int) (k10 : Int) (k11 : Int) (k12 : Int) (k13 : Int) (k21 : Int) (hI : (k7 = s.1 7 ∧ k8 = s.1 8 ∧ k9 = s.1 9 ∧ k10 = s.1 10 ∧ k11 = s.1 11) ∧ (f6 = s.2 6 ∧ f7 = s.2 7 ∧ f8 = s.2 8 ∧ f9 = s.2 9 ∧ k21 = s.1 21) ∧ (k12 = 0 ∧ k13 = s.1 13) ∧ (x1 = bI (s.1 8 = 1 ∧ s.1 11 = 382984) ∧ x2 = bI (s.1 8 = 1 ∧ s.1 11 = 212302449)) ∧ ¬ (s.1 8 = 1 ∧ s.1 11 = 2427955)) (c_1 : x1 = 0) (c_17 : x2 = 0) (c_34 : x1 = 0) (c_35 : ¬ x2 = 0) (o_36 : (0 ≤ (5 : Int) ∧ (5 : Int) < 6)) (c_38 : (f6 (24 + (5 : Int))) = 20) : (k7 = s.1 7 ∧ k8 = s.1 8 ∧ k9 = s.1 9 ∧ k10 = s.1 10 ∧ k11 = s.1 11) ∧ (f6 = s.2 6 ∧ f7 = s.2 7 ∧ f8 = s.2 8 ∧ f9 = s.2 9 ∧ k21 = s.1 21) ∧ lnG (s.1 8) (s.1 11) (s.2 6 28) (s.2 6 29) (if (if k12 = 0 then (1 : Int) else k12) = 0 then (3 : Int) else (if k12 = 0 then (1 : Int) else k12)) (if (if k12 = 0 then (1 : Int) else k12) = 0 then k9 else (if k12 = 0 then k9 else k13)) (s.1 13) (s.1 9) x1 := by
  obtain ⟨p0, p1, p2, p3, p4, p5, p6, p7, p8⟩ := hp
  (try simp only [Int.add_zero, Int.reduceAdd, bI_0, bI_n, Classical.not_not, p3, true_and] at *)
  (try (have h2 := hI; clear hI; obtain ⟨⟨a1, a2, a3, a4, a5⟩, ⟨b1, b2, b3, b4, b5⟩, hJ⟩ := h2; subst a1 a2 a3 a4 a5 b1 b2 b3 b4 b5))
  (try (have h4 := hJ; obtain ⟨⟨d1, d2⟩, ⟨d3, d4⟩, hd⟩ := h4; clear hJ; subst d1 d2))
  (try simp only [Int.reduceEq, ↓reduceIte] at *)
  (try (have h3 := hJ; clear hJ; obtain ⟨hd, hg⟩ := h3))
  (try have g := hg.resolve_right (fun h => h.1 (by assumption)))
  (try have g := hg.resolve_left (fun h => absurd h.1 (by assumption)))
  (try (have c0 : k12 = 0 := c_1; subst c0))
  (try (have y := g.2.2.resolve_left (fun h => by omega); clear g hg; try clear o_22; try clear o_36; try clear o_57))
  (try (have y := g.2.2.resolve_right (fun h => by omega); clear g hg; try clear o_22; try clear o_36; try clear o_57))
  (try have ex := enx_b (t := s.2 4) p1)
  (try have q181 := q_18.1.1)
  (try have q311 := q_31.1.1)
  (try have q541 := q_54.1)
  (try have q661 := q_66.1.1)
  (try simp (disch := omega) only [i32_id] at *)
  (try unfold lex3)
  (try simp only [bI_0, bI_n, Classical.not_not] at *)
  (try simp (disch := omega) only [i32_id] at *)
  first | done | omega | ((repeat' (with_reducible apply And.intro)) <;> first | (show lnQ _ _ _ _ _ _ _ _ _ _ _ _ _ _ _ _; have hx : x1 = 0 := c_4; exact lnQ_n y.2.1 y.2.2 rfl q_18 (by rw [rep_h (i := 5) (by decide), rep_t (i := s.2 6 29) rfl]; rfl)) | (show lnQ _ _ _ _ _ _ _ _ _ _ _ _ _ _ _ _; have hx : ¬ x1 = 0 := c_4; exact lnQ_s1 y.2.1 y.2.2 q_31 (by assumption)) | (show lnQ _ _ _ _ _ _ _ _ _ _ _ _ _ _ _ _; have hx : ¬ x1 = 0 := c_4; exact lnQ_s2 y.2.1 y.2.2 q_31 (by assumption) q_54 (by assumption)) | (show lnQ _ _ _ _ _ _ _ _ _ _ _ _ _ _ _ _; have hx : ¬ x1 = 0 := c_4; exact lnQ_s3 y.2.1 y.2.2 q_31 (by assumption) q_54 (by assumption) q_66 (fun w v w2 v2 hx => by rw [rep_h (i := 4) (by decide), hx, rep_s (i := 4 * s.2 6 28 + 3) (by omega), rep_s (i := 4 * s.2 6 28 + 2) (by omega), rep_s (i := 4 * s.2 6 28 + 1) (by omega), rep_s (i := 4 * s.2 6 28) (by omega)]; rfl)) | (show lnQ _ _ _ _ _ _ _ _ _ _ _ _ _ _ _ _; exact lnQ_bad ⟨by omega, by omega⟩ hd g.2.2 g.2.1) | (exact lnG_a hd d3 (by assumption) (by assumption)) | (exact lnG_b hd d3 (by assumption) (by assumption)) | (exact lnG_c hd d4 (by assumption) (by assumption)) | (exact lnG_d hd d4 (by assumption) (by assumption) (by assumption)) | (exact lnG_e hd d3 d4 (by assumption) (by assumption)) | (exact lnG_x d3 d4 (by assumption) (by assumption)) | assumption | rfl | omega | (show lnQ _ _ _ _ _ _ _ _ _ _ _ _ _ _ _ _; exact lnQ_do q_16.1 (by omega) (by omega)) | (intro z hz; exact q_16.2.1 z (by omega)) | (exact q_16.2.2.1) | (intro z hz; rw [upI_n _ _ (by omega)]) | (intro z hz; rfl) | (intro z hz; rw [q_66.2.2.1 z (by omega) (by omega), q_31.2.2.1 z (by omega) (by omega)]) | (intro z hz; exact q_31.2.2.1 z (by omega) (by omega)) | grind [upI])
theorem vX3_line_41 (s : MS) (hp : 0 ≤ (s.1 7) ∧ (s.1 7) ≤ (s.1 6) ∧ (s.1 6) ≤ 800 ∧ (s.1 12) = 0 ∧ (0 ≤ (s.2 6) 24 ∧ (s.2 6) 24 ≤ 100) ∧ ((s.1 21) = 0 → (s.2 6) 27 = 0) ∧ (0 ≤ (s.2 6) 28 ∧ (s.2 6) 28 ≤ 6) ∧ (0 ≤ (s.2 6) 29 ∧ (s.2 6) 29 ≤ 20) ∧ (0 ≤ (s.2 6) 26 ∧ (s.2 6) 26 ≤ 200000)) (x1 : Int) (x2 : Int) (f6 : Int → Int) (f7 : Int → Int) (f8 : Int → Int) (f9 : Int → Int) (k7 : Int) (k8 : Int) (k9 : Int) (k10 : Int) (k11 : Int) (k12 : Int) (k13 : Int) (k21 : Int) (hI : (k7 = s.1 7 ∧ k8 = s.1 8 ∧ k9 = s.1 9 ∧ k10 = s.1 10 ∧ k11 = s.1 11) ∧ (f6 = s.2 6 ∧ f7 = s.2 7 ∧ f8 = s.2 8 ∧ f9 = s.2 9 ∧ k21 = s.1 21) ∧ (k12 = 0 ∧ k13 = s.1 13) ∧ (x1 = bI (s.1 8 = 1 ∧ s.1 11 = 382984) ∧ x2 = bI (s.1 8 = 1 ∧ s.1 11 = 212302449)) ∧ ¬ (s.1 8 = 1 ∧ s.1 11 = 2427955)) (c_1 : x1 = 0) (c_17 : x2 = 0) (c_34 : x1 = 0) (c_35 : ¬ x2 = 0) (o_36 : (0 ≤ (5 : Int) ∧ (5 : Int) < 6)) (c_38 : (f6 (24 + (5 : Int))) = 20) : lex3 0 0 0 0 0 1 := by
  obtain ⟨p0, p1, p2, p3, p4, p5, p6, p7, p8⟩ := hp
  (try simp only [Int.add_zero, Int.reduceAdd, bI_0, bI_n, Classical.not_not, p3, true_and] at *)
  (try (have h2 := hI; clear hI; obtain ⟨⟨a1, a2, a3, a4, a5⟩, ⟨b1, b2, b3, b4, b5⟩, hJ⟩ := h2; subst a1 a2 a3 a4 a5 b1 b2 b3 b4 b5))
  (try (have h4 := hJ; obtain ⟨⟨d1, d2⟩, ⟨d3, d4⟩, hd⟩ := h4; clear hJ; subst d1 d2))
  (try simp only [Int.reduceEq, ↓reduceIte] at *)
  (try (have h3 := hJ; clear hJ; obtain ⟨hd, hg⟩ := h3))
  (try have g := hg.resolve_right (fun h => h.1 (by assumption)))
  (try have g := hg.resolve_left (fun h => absurd h.1 (by assumption)))
  (try (have c0 : k12 = 0 := c_1; subst c0))
  (try (have y := g.2.2.resolve_left (fun h => by omega); clear g hg; try clear o_22; try clear o_36; try clear o_57))
  (try (have y := g.2.2.resolve_right (fun h => by omega); clear g hg; try clear o_22; try clear o_36; try clear o_57))
  (try have ex := enx_b (t := s.2 4) p1)
  (try have q181 := q_18.1.1)
  (try have q311 := q_31.1.1)
  (try have q541 := q_54.1)
  (try have q661 := q_66.1.1)
  (try simp (disch := omega) only [i32_id] at *)
  (try unfold lex3)
  (try simp only [bI_0, bI_n, Classical.not_not] at *)
  (try simp (disch := omega) only [i32_id] at *)
  first | done | omega | ((repeat' (with_reducible apply And.intro)) <;> first | (show lnQ _ _ _ _ _ _ _ _ _ _ _ _ _ _ _ _; have hx : x1 = 0 := c_4; exact lnQ_n y.2.1 y.2.2 rfl q_18 (by rw [rep_h (i := 5) (by decide), rep_t (i := s.2 6 29) rfl]; rfl)) | (show lnQ _ _ _ _ _ _ _ _ _ _ _ _ _ _ _ _; have hx : ¬ x1 = 0 := c_4; exact lnQ_s1 y.2.1 y.2.2 q_31 (by assumption)) | (show lnQ _ _ _ _ _ _ _ _ _ _ _ _ _ _ _ _; have hx : ¬ x1 = 0 := c_4; exact lnQ_s2 y.2.1 y.2.2 q_31 (by assumption) q_54 (by assumption)) | (show lnQ _ _ _ _ _ _ _ _ _ _ _ _ _ _ _ _; have hx : ¬ x1 = 0 := c_4; exact lnQ_s3 y.2.1 y.2.2 q_31 (by assumption) q_54 (by assumption) q_66 (fun w v w2 v2 hx => by rw [rep_h (i := 4) (by decide), hx, rep_s (i := 4 * s.2 6 28 + 3) (by omega), rep_s (i := 4 * s.2 6 28 + 2) (by omega), rep_s (i := 4 * s.2 6 28 + 1) (by omega), rep_s (i := 4 * s.2 6 28) (by omega)]; rfl)) | (show lnQ _ _ _ _ _ _ _ _ _ _ _ _ _ _ _ _; exact lnQ_bad ⟨by omega, by omega⟩ hd g.2.2 g.2.1) | (exact lnG_a hd d3 (by assumption) (by assumption)) | (exact lnG_b hd d3 (by assumption) (by assumption)) | (exact lnG_c hd d4 (by assumption) (by assumption)) | (exact lnG_d hd d4 (by assumption) (by assumption) (by assumption)) | (exact lnG_e hd d3 d4 (by assumption) (by assumption)) | (exact lnG_x d3 d4 (by assumption) (by assumption)) | assumption | rfl | omega | (show lnQ _ _ _ _ _ _ _ _ _ _ _ _ _ _ _ _; exact lnQ_do q_16.1 (by omega) (by omega)) | (intro z hz; exact q_16.2.1 z (by omega)) | (exact q_16.2.2.1) | (intro z hz; rw [upI_n _ _ (by omega)]) | (intro z hz; rfl) | (intro z hz; rw [q_66.2.2.1 z (by omega) (by omega), q_31.2.2.1 z (by omega) (by omega)]) | (intro z hz; exact q_31.2.2.1 z (by omega) (by omega)) | grind [upI])
theorem vX3_line_42 (s : MS) (hp : 0 ≤ (s.1 7) ∧ (s.1 7) ≤ (s.1 6) ∧ (s.1 6) ≤ 800 ∧ (s.1 12) = 0 ∧ (0 ≤ (s.2 6) 24 ∧ (s.2 6) 24 ≤ 100) ∧ ((s.1 21) = 0 → (s.2 6) 27 = 0) ∧ (0 ≤ (s.2 6) 28 ∧ (s.2 6) 28 ≤ 6) ∧ (0 ≤ (s.2 6) 29 ∧ (s.2 6) 29 ≤ 20) ∧ (0 ≤ (s.2 6) 26 ∧ (s.2 6) 26 ≤ 200000)) (x1 : Int) (x2 : Int) (f6 : Int → Int) (f7 : Int → Int) (f8 : Int → Int) (f9 : Int → Int) (k7 : Int) (k8 : Int) (k9 : Int) (k10 : Int) (k11 : Int) (k12 : Int) (k13 : Int) (k21 : Int) (hI : (k7 = s.1 7 ∧ k8 = s.1 8 ∧ k9 = s.1 9 ∧ k10 = s.1 10 ∧ k11 = s.1 11) ∧ (f6 = s.2 6 ∧ f7 = s.2 7 ∧ f8 = s.2 8 ∧ f9 = s.2 9 ∧ k21 = s.1 21) ∧ (k12 = 0 ∧ k13 = s.1 13) ∧ (x1 = bI (s.1 8 = 1 ∧ s.1 11 = 382984) ∧ x2 = bI (s.1 8 = 1 ∧ s.1 11 = 212302449)) ∧ ¬ (s.1 8 = 1 ∧ s.1 11 = 2427955)) (c_1 : x1 = 0) (c_17 : x2 = 0) (c_34 : ¬ x1 = 0) : (0 ≤ (4 : Int) ∧ (4 : Int) < 6) := by
  obtain ⟨p0, p1, p2, p3, p4, p5, p6, p7, p8⟩ := hp
  (try simp only [Int.add_zero, Int.reduceAdd, bI_0, bI_n, Classical.not_not, p3, true_and] at *)
  (try (have h2 := hI; clear hI; obtain ⟨⟨a1, a2, a3, a4, a5⟩, ⟨b1, b2, b3, b4, b5⟩, hJ⟩ := h2; subst a1 a2 a3 a4 a5 b1 b2 b3 b4 b5))
  (try (have h4 := hJ; obtain ⟨⟨d1, d2⟩, ⟨d3, d4⟩, hd⟩ := h4; clear hJ; subst d1 d2))
  (try simp only [Int.reduceEq, ↓reduceIte] at *)
  (try (have h3 := hJ; clear hJ; obtain ⟨hd, hg⟩ := h3))
  (try have g := hg.resolve_right (fun h => h.1 (by assumption)))
  (try have g := hg.resolve_left (fun h => absurd h.1 (by assumption)))
  (try (have c0 : k12 = 0 := c_1; subst c0))
  (try (have y := g.2.2.resolve_left (fun h => by omega); clear g hg; try clear o_22; try clear o_36; try clear o_57))
  (try (have y := g.2.2.resolve_right (fun h => by omega); clear g hg; try clear o_22; try clear o_36; try clear o_57))
  (try have ex := enx_b (t := s.2 4) p1)
  (try have q181 := q_18.1.1)
  (try have q311 := q_31.1.1)
  (try have q541 := q_54.1)
  (try have q661 := q_66.1.1)
  (try simp (disch := omega) only [i32_id] at *)
  (try unfold lex3)
  (try simp only [bI_0, bI_n, Classical.not_not] at *)
  (try simp (disch := omega) only [i32_id] at *)
  first | done | omega | ((repeat' (with_reducible apply And.intro)) <;> first | (show lnQ _ _ _ _ _ _ _ _ _ _ _ _ _ _ _ _; have hx : x1 = 0 := c_4; exact lnQ_n y.2.1 y.2.2 rfl q_18 (by rw [rep_h (i := 5) (by decide), rep_t (i := s.2 6 29) rfl]; rfl)) | (show lnQ _ _ _ _ _ _ _ _ _ _ _ _ _ _ _ _; have hx : ¬ x1 = 0 := c_4; exact lnQ_s1 y.2.1 y.2.2 q_31 (by assumption)) | (show lnQ _ _ _ _ _ _ _ _ _ _ _ _ _ _ _ _; have hx : ¬ x1 = 0 := c_4; exact lnQ_s2 y.2.1 y.2.2 q_31 (by assumption) q_54 (by assumption)) | (show lnQ _ _ _ _ _ _ _ _ _ _ _ _ _ _ _ _; have hx : ¬ x1 = 0 := c_4; exact lnQ_s3 y.2.1 y.2.2 q_31 (by assumption) q_54 (by assumption) q_66 (fun w v w2 v2 hx => by rw [rep_h (i := 4) (by decide), hx, rep_s (i := 4 * s.2 6 28 + 3) (by omega), rep_s (i := 4 * s.2 6 28 + 2) (by omega), rep_s (i := 4 * s.2 6 28 + 1) (by omega), rep_s (i := 4 * s.2 6 28) (by omega)]; rfl)) | (show lnQ _ _ _ _ _ _ _ _ _ _ _ _ _ _ _ _; exact lnQ_bad ⟨by omega, by omega⟩ hd g.2.2 g.2.1) | (exact lnG_a hd d3 (by assumption) (by assumption)) | (exact lnG_b hd d3 (by assumption) (by assumption)) | (exact lnG_c hd d4 (by assumption) (by assumption)) | (exact lnG_d hd d4 (by assumption) (by assumption) (by assumption)) | (exact lnG_e hd d3 d4 (by assumption) (by assumption)) | (exact lnG_x d3 d4 (by assumption) (by assumption)) | assumption | rfl | omega | (show lnQ _ _ _ _ _ _ _ _ _ _ _ _ _ _ _ _; exact lnQ_do q_16.1 (by omega) (by omega)) | (intro z hz; exact q_16.2.1 z (by omega)) | (exact q_16.2.2.1) | (intro z hz; rw [upI_n _ _ (by omega)]) | (intro z hz; rfl) | (intro z hz; rw [q_66.2.2.1 z (by omega) (by omega), q_31.2.2.1 z (by omega) (by omega)]) | (intro z hz; exact q_31.2.2.1 z (by omega) (by omega)) | grind [upI])
theorem vX3_line_43 (s : MS) (hp : 0 ≤ (s.1 7) ∧ (s.1 7) ≤ (s.1 6) ∧ (s.1 6) ≤ 800 ∧ (s.1 12) = 0 ∧ (0 ≤ (s.2 6) 24 ∧ (s.2 6) 24 ≤ 100) ∧ ((s.1 21) = 0 → (s.2 6) 27 = 0) ∧ (0 ≤ (s.2 6) 28 ∧ (s.2 6) 28 ≤ 6) ∧ (0 ≤ (s.2 6) 29 ∧ (s.2 6) 29 ≤ 20) ∧ (0 ≤ (s.2 6) 26 ∧ (s.2 6) 26 ≤ 200000)) (x1 : Int) (x2 : Int) (f6 : Int → Int) (f7 : Int → Int) (f8 : Int → Int) (f9 : Int → Int) (k7 : Int) (k8 : Int) (k9 : Int) (k10 : Int) (k11 : Int) (k12 : Int) (k13 : Int) (k21 : Int) (hI : (k7 = s.1 7 ∧ k8 = s.1 8 ∧ k9 = s.1 9 ∧ k10 = s.1 10 ∧ k11 = s.1 11) ∧ (f6 = s.2 6 ∧ f7 = s.2 7 ∧ f8 = s.2 8 ∧ f9 = s.2 9 ∧ k21 = s.1 21) ∧ (k12 = 0 ∧ k13 = s.1 13) ∧ (x1 = bI (s.1 8 = 1 ∧ s.1 11 = 382984) ∧ x2 = bI (s.1 8 = 1 ∧ s.1 11 = 212302449)) ∧ ¬ (s.1 8 = 1 ∧ s.1 11 = 2427955)) (c_1 : x1 = 0) (c_17 : x2 = 0) (c_34 : ¬ x1 = 0) (o_40 : (0 ≤ (4 : Int) ∧ (4 : Int) < 6)) (c_42 : (f6 (24 + (4 : Int))) = 6) : (k7 = s.1 7 ∧ k8 = s.1 8 ∧ k9 = s.1 9 ∧ k10 = s.1 10 ∧ k11 = s.1 11) ∧ (f6 = s.2 6 ∧ f7 = s.2 7 ∧ f8 = s.2 8 ∧ f9 = s.2 9 ∧ k21 = s.1 21) ∧ lnG (s.1 8) (s.1 11) (s.2 6 28) (s.2 6 29) (if (if k12 = 0 then (1 : Int) else k12) = 0 then (3 : Int) else (if k12 = 0 then (1 : Int) else k12)) (if (if k12 = 0 then (1 : Int) else k12) = 0 then k9 else (if k12 = 0 then k9 else k13)) (s.1 13) (s.1 9) x1 := by
  obtain ⟨p0, p1, p2, p3, p4, p5, p6, p7, p8⟩ := hp
  (try simp only [Int.add_zero, Int.reduceAdd, bI_0, bI_n, Classical.not_not, p3, true_and] at *)
  (try (have h2 := hI; clear hI; obtain ⟨⟨a1, a2, a3, a4, a5⟩, ⟨b1, b2, b3, b4, b5⟩, hJ⟩ := h2; subst a1 a2 a3 a4 a5 b1 b2 b3 b4 b5))
  (try (have h4 := hJ; obtain ⟨⟨d1, d2⟩, ⟨d3, d4⟩, hd⟩ := h4; clear hJ; subst d1 d2))
  (try simp only [Int.reduceEq, ↓reduceIte] at *)
  (try (have h3 := hJ; clear hJ; obtain ⟨hd, hg⟩ := h3))
  (try have g := hg.resolve_right (fun h => h.1 (by assumption)))
  (try have g := hg.resolve_left (fun h => absurd h.1 (by assumption)))
  (try (have c0 : k12 = 0 := c_1; subst c0))
  (try (have y := g.2.2.resolve_left (fun h => by omega); clear g hg; try clear o_22; try clear o_36; try clear o_57))
  (try (have y := g.2.2.resolve_right (fun h => by omega); clear g hg; try clear o_22; try clear o_36; try clear o_57))
  (try have ex := enx_b (t := s.2 4) p1)
  (try have q181 := q_18.1.1)
  (try have q311 := q_31.1.1)
  (try have q541 := q_54.1)
  (try have q661 := q_66.1.1)
  (try simp (disch := omega) only [i32_id] at *)
  (try unfold lex3)
  (try simp only [bI_0, bI_n, Classical.not_not] at *)
  (try simp (disch := omega) only [i32_id] at *)
  first | done | omega | ((repeat' (with_reducible apply And.intro)) <;> first | (show lnQ _ _ _ _ _ _ _ _ _ _ _ _ _ _ _ _; have hx : x1 = 0 := c_4; exact lnQ_n y.2.1 y.2.2 rfl q_18 (by rw [rep_h (i := 5) (by decide), rep_t (i := s.2 6 29) rfl]; rfl)) | (show lnQ _ _ _ _ _ _ _ _ _ _ _ _ _ _ _ _; have hx : ¬ x1 = 0 := c_4; exact lnQ_s1 y.2.1 y.2.2 q_31 (by assumption)) | (show lnQ _ _ _ _ _ _ _ _ _ _ _ _ _ _ _ _; have hx : ¬ x1 = 0 := c_4; exact lnQ_s2 y.2.1 y.2.2 q_31 (by assumption) q_54 (by assumption)) | (show lnQ _ _ _ _ _ _ _ _ _ _ _ _ _ _ _ _; have hx : ¬ x1 = 0 := c_4; exact lnQ_s3 y.2.1 y.2.2 q_31 (by assumption) q_54 (by assumption) q_66 (fun w v w2 v2 hx => by rw [rep_h (i := 4) (by decide), hx, rep_s (i := 4 * s.2 6 28 + 3) (by omega), rep_s (i := 4 * s.2 6 28 + 2) (by omega), rep_s (i := 4 * s.2 6 28 + 1) (by omega), rep_s (i := 4 * s.2 6 28) (by omega)]; rfl)) | (show lnQ _ _ _ _ _ _ _ _ _ _ _ _ _ _ _ _; exact lnQ_bad ⟨by omega, by omega⟩ hd g.2.2 g.2.1) | (exact lnG_a hd d3 (by assumption) (by assumption)) | (exact lnG_b hd d3 (by assumption) (by assumption)) | (exact lnG_c hd d4 (by assumption) (by assumption)) | (exact lnG_d hd d4 (by assumption) (by assumption) (by assumption)) | (exact lnG_e hd d3 d4 (by assumption) (by assumption)) | (exact lnG_x d3 d4 (by assumption) (by assumption)) | assumption | rfl | omega | (show lnQ _ _ _ _ _ _ _ _ _ _ _ _ _ _ _ _; exact lnQ_do q_16.1 (by omega) (by omega)) | (intro z hz; exact q_16.2.1 z (by omega)) | (exact q_16.2.2.1) | (intro z hz; rw [upI_n _ _ (by omega)]) | (intro z hz; rfl) | (intro z hz; rw [q_66.2.2.1 z (by omega) (by omega), q_31.2.2.1 z (by omega) (by omega)]) | (intro z hz; exact q_31.2.2.1 z (by omega) (by omega)) | grind [upI])
theorem vX3_line_44 (s : MS) (hp : 0 ≤ (s.1 7) ∧ (s.1 7) ≤ (s.1 6) ∧ (s.1 6) ≤ 800 ∧ (s.1 12) = 0 ∧ (0 ≤ (s.2 6) 24 ∧ (s.2 6) 24 ≤ 100) ∧ ((s.1 21) = 0 → (s.2 6) 27 = 0) ∧ (0 ≤ (s.2 6) 28 ∧ (s.2 6) 28 ≤ 6) ∧ (0 ≤ (s.2 6) 29 ∧ (s.2 6) 29 ≤ 20) ∧ (0 ≤ (s.2 6) 26 ∧ (s.2 6) 26 ≤ 200000)) (x1 : Int) (x2 : Int) (f6 : Int → Int) (f7 : Int → Int) (f8 : Int → Int) (f9 : Int → Int) (k7 : Int) (k8 : Int) (k9 : Int) (k10 : Int) (k11 : Int) (k12 : Int) (k13 : Int) (k21 : Int) (hI : (k7 = s.1 7 ∧ k8 = s.1 8 ∧ k9 = s.1 9 ∧ k10 = s.1 10 ∧ k11 = s.1 11) ∧ (f6 = s.2 6 ∧ f7 = s.2 7 ∧ f8 = s.2 8 ∧ f9 = s.2 9 ∧ k21 = s.1 21) ∧ (k12 = 0 ∧ k13 = s.1 13) ∧ (x1 = bI (s.1 8 = 1 ∧ s.1 11 = 382984) ∧ x2 = bI (s.1 8 = 1 ∧ s.1 11 = 212302449)) ∧ ¬ (s.1 8 = 1 ∧ s.1 11 = 2427955)) (c_1 : x1 = 0) (c_17 : x2 = 0) (c_34 : ¬ x1 = 0) (o_40 : (0 ≤ (4 : Int) ∧ (4 : Int) < 6)) (c_42 : (f6 (24 + (4 : Int))) = 6) : lex3 0 0 0 0 0 1 := by
  obtain ⟨p0, p1, p2, p3, p4, p5, p6, p7, p8⟩ := hp
  (try simp only [Int.add_zero, Int.reduceAdd, bI_0, bI_n, Classical.not_not, p3, true_and] at *)
  (try (have h2 := hI; clear hI; obtain ⟨⟨a1, a2, a3, a4, a5⟩, ⟨b1, b2, b3, b4, b5⟩, hJ⟩ := h2; subst a1 a2 a3 a4 a5 b1 b2 b3 b4 b5))
  (try (have h4 := hJ; obtain ⟨⟨d1, d2⟩, ⟨d3, d4⟩, hd⟩ := h4; clear hJ; subst d1 d2))
  (try simp only [Int.reduceEq, ↓reduceIte] at *)
  (try (have h3 := hJ; clear hJ; obtain ⟨hd, hg⟩ := h3))
  (try have g := hg.resolve_right (fun h => h.1 (by assumption)))
  (try have g := hg.resolve_left (fun h => absurd h.1 (by assumption)))
  (try (have c0 : k12 = 0 := c_1; subst c0))
  (try (have y := g.2.2.resolve_left (fun h => by omega); clear g hg; try clear o_22; try clear o_36; try clear o_57))
  (try (have y := g.2.2.resolve_right (fun h => by omega); clear g hg; try clear o_22; try clear o_36; try clear o_57))
  (try have ex := enx_b (t := s.2 4) p1)
  (try have q181 := q_18.1.1)
  (try have q311 := q_31.1.1)
  (try have q541 := q_54.1)
  (try have q661 := q_66.1.1)
  (try simp (disch := omega) only [i32_id] at *)
  (try unfold lex3)
  (try simp only [bI_0, bI_n, Classical.not_not] at *)
  (try simp (disch := omega) only [i32_id] at *)
  first | done | omega | ((repeat' (with_reducible apply And.intro)) <;> first | (show lnQ _ _ _ _ _ _ _ _ _ _ _ _ _ _ _ _; have hx : x1 = 0 := c_4; exact lnQ_n y.2.1 y.2.2 rfl q_18 (by rw [rep_h (i := 5) (by decide), rep_t (i := s.2 6 29) rfl]; rfl)) | (show lnQ _ _ _ _ _ _ _ _ _ _ _ _ _ _ _ _; have hx : ¬ x1 = 0 := c_4; exact lnQ_s1 y.2.1 y.2.2 q_31 (by assumption)) | (show lnQ _ _ _ _ _ _ _ _ _ _ _ _ _ _ _ _; have hx : ¬ x1 = 0 := c_4; exact lnQ_s2 y.2.1 y.2.2 q_31 (by assumption) q_54 (by assumption)) | (show lnQ _ _ _ _ _ _ _ _ _ _ _ _ _ _ _ _; have hx : ¬ x1 = 0 := c_4; exact lnQ_s3 y.2.1 y.2.2 q_31 (by assumption) q_54 (by assumption) q_66 (fun w v w2 v2 hx => by rw [rep_h (i := 4) (by decide), hx, rep_s (i := 4 * s.2 6 28 + 3) (by omega), rep_s (i := 4 * s.2 6 28 + 2) (by omega), rep_s (i := 4 * s.2 6 28 + 1) (by omega), rep_s (i := 4 * s.2 6 28) (by omega)]; rfl)) | (show lnQ _ _ _ _ _ _ _ _ _ _ _ _ _ _ _ _; exact lnQ_bad ⟨by omega, by omega⟩ hd g.2.2 g.2.1) | (exact lnG_a hd d3 (by assumption) (by assumption)) | (exact lnG_b hd d3 (by assumption) (by assumption)) | (exact lnG_c hd d4 (by assumption) (by assumption)) | (exact lnG_d hd d4 (by assumption) (by assumption) (by assumption)) | (exact lnG_e hd d3 d4 (by assumption) (by assumption)) | (exact lnG_x d3 d4 (by assumption) (by assumption)) | assumption | rfl | omega | (show lnQ _ _ _ _ _ _ _ _ _ _ _ _ _ _ _ _; exact lnQ_do q_16.1 (by omega) (by omega)) | (intro z hz; exact q_16.2.1 z (by omega)) | (exact q_16.2.2.1) | (intro z hz; rw [upI_n _ _ (by omega)]) | (intro z hz; rfl) | (intro z hz; rw [q_66.2.2.1 z (by omega) (by omega), q_31.2.2.1 z (by omega) (by omega)]) | (intro z hz; exact q_31.2.2.1 z (by omega) (by omega)) | grind [upI])
theorem vX3_line_45 (s : MS) (hp : 0 ≤ (s.1 7) ∧ (s.1 7) ≤ (s.1 6) ∧ (s.1 6) ≤ 800 ∧ (s.1 12) = 0 ∧ (0 ≤ (s.2 6) 24 ∧ (s.2 6) 24 ≤ 100) ∧ ((s.1 21) = 0 → (s.2 6) 27 = 0) ∧ (0 ≤ (s.2 6) 28 ∧ (s.2 6) 28 ≤ 6) ∧ (0 ≤ (s.2 6) 29 ∧ (s.2 6) 29 ≤ 20) ∧ (0 ≤ (s.2 6) 26 ∧ (s.2 6) 26 ≤ 200000)) (x1 : Int) (x2 : Int) (f6 : Int → Int) (f7 : Int → Int) (f8 : Int → Int) (f9 : Int → Int) (k7 : Int) (k8 : Int) (k9 : Int) (k10 : Int) (k11 : Int) (k12 : Int) (k13 : Int) (k21 : Int) (hI : (k7 = s.1 7 ∧ k8 = s.1 8 ∧ k9 = s.1 9 ∧ k10 = s.1 10 ∧ k11 = s.1 11) ∧ (f6 = s.2 6 ∧ f7 = s.2 7 ∧ f8 = s.2 8 ∧ f9 = s.2 9 ∧ k21 = s.1 21) ∧ (k12 = 0 ∧ k13 = s.1 13) ∧ (x1 = bI (s.1 8 = 1 ∧ s.1 11 = 382984) ∧ x2 = bI (s.1 8 = 1 ∧ s.1 11 = 212302449)) ∧ ¬ (s.1 8 = 1 ∧ s.1 11 = 2427955)) (c_1 : x1 = 0) (c_17 : x2 = 0) (c_34 : ¬ x1 = 0) (o_40 : (0 ≤ (4 : Int) ∧ (4 : Int) < 6)) (c_42 : ¬ (f6 (24 + (4 : Int))) = 6) (c_44 : x2 = 0) : (k7 = s.1 7 ∧ k8 = s.1 8 ∧ k9 = s.1 9 ∧ k10 = s.1 10 ∧ k11 = s.1 11) ∧ (f6 = s.2 6 ∧ f7 = s.2 7 ∧ f8 = s.2 8 ∧ f9 = s.2 9 ∧ k21 = s.1 21) ∧ lnG (s.1 8) (s.1 11) (s.2 6 28) (s.2 6 29) (if k12 = 0 then (1 : Int) else k12) (if k12 = 0 then k9 else k13) (s.1 13) (s.1 9) x1 := by
  obtain ⟨p0, p1, p2, p3, p4, p5, p6, p7, p8⟩ := hp
  (try simp only [Int.add_zero, Int.reduceAdd, bI_0, bI_n, Classical.not_not, p3, true_and] at *)
  (try (have h2 := hI; clear hI; obtain ⟨⟨a1, a2, a3, a4, a5⟩, ⟨b1, b2, b3, b4, b5⟩, hJ⟩ := h2; subst a1 a2 a3 a4 a5 b1 b2 b3 b4 b5))
  (try (have h4 := hJ; obtain ⟨⟨d1, d2⟩, ⟨d3, d4⟩, hd⟩ := h4; clear hJ; subst d1 d2))
  (try simp only [Int.reduceEq, ↓reduceIte] at *)
  (try (have h3 := hJ; clear hJ; obtain ⟨hd, hg⟩ := h3))
  (try have g := hg.resolve_right (fun h => h.1 (by assumption)))
  (try have g := hg.resolve_left (fun h => absurd h.1 (by assumption)))
  (try (have c0 : k12 = 0 := c_1; subst c0))
  (try (have y := g.2.2.resolve_left (fun h => by omega); clear g hg; try clear o_22; try clear o_36; try clear o_57))
  (try (have y := g.2.2.resolve_right (fun h => by omega); clear g hg; try clear o_22; try clear o_36; try clear o_57))
  (try have ex := enx_b (t := s.2 4) p1)
  (try have q181 := q_18.1.1)
  (try have q311 := q_31.1.1)
  (try have q541 := q_54.1)
  (try have q661 := q_66.1.1)
  (try simp (disch := omega) only [i32_id] at *)
  (try unfold lex3)
  (try simp only [bI_0, bI_n, Classical.not_not] at *)
  (try simp (disch := omega) only [i32_id] at *)
  first | done | omega | ((repeat' (with_reducible apply And.intro)) <;> first | (show lnQ _ _ _ _ _ _ _ _ _ _ _ _ _ _ _ _; have hx : x1 = 0 := c_4; exact lnQ_n y.2.1 y.2.2 rfl q_18 (by rw [rep_h (i := 5) (by decide), rep_t (i := s.2 6 29) rfl]; rfl)) | (show lnQ _ _ _ _ _ _ _ _ _ _ _ _ _ _ _ _; have hx : ¬ x1 = 0 := c_4; exact lnQ_s1 y.2.1 y.2.2 q_31 (by assumption)) | (show lnQ _ _ _ _ _ _ _ _ _ _ _ _ _ _ _ _; have hx : ¬ x1 = 0 := c_4; exact lnQ_s2 y.2.1 y.2.2 q_31 (by assumption) q_54 (by assumption)) | (show lnQ _ _ _ _ _ _ _ _ _ _ _ _ _ _ _ _; have hx : ¬ x1 = 0 := c_4; exact lnQ_s3 y.2.1 y.2.2 q_31 (by assumption) q_54 (by assumption) q_66 (fun w v w2 v2 hx => by rw [rep_h (i := 4) (by decide), hx, rep_s (i := 4 * s.2 6 28 + 3) (by omega), rep_s (i := 4 * s.2 6 28 + 2) (by omega), rep_s (i := 4 * s.2 6 28 + 1) (by omega), rep_s (i := 4 * s.2 6 28) (by omega)]; rfl)) | (show lnQ _ _ _ _ _ _ _ _ _ _ _ _ _ _ _ _; exact lnQ_bad ⟨by omega, by omega⟩ hd g.2.2 g.2.1) | (exact lnG_a hd d3 (by assumption) (by assumption)) | (exact lnG_b hd d3 (by assumption) (by assumption)) | (exact lnG_c hd d4 (by assumption) (by assumption)) | (exact lnG_d hd d4 (by assumption) (by assumption) (by assumption)) | (exact lnG_e hd d3 d4 (by assumption) (by assumption)) | (exact lnG_x d3 d4 (by assumption) (by assumption)) | assumption | rfl | omega | (show lnQ _ _ _ _ _ _ _ _ _ _ _ _ _ _ _ _; exact lnQ_do q_16.1 (by omega) (by omega)) | (intro z hz; exact q_16.2.1 z (by omega)) | (exact q_16.2.2.1) | (intro z hz; rw [upI_n _ _ (by omega)]) | (intro z hz; rfl) | (intro z hz; rw [q_66.2.2.1 z (by omega) (by omega), q_31.2.2.1 z (by omega) (by omega)]) | (intro z hz; exact q_31.2.2.1 z (by omega) (by omega)) | grind [upI])
theorem vX3_line_46 (s : MS) (hp : 0 ≤ (s.1 7) ∧ (s.1 7) ≤ (s.1 6) ∧ (s.1 6) ≤ 800 ∧ (s.1 12) = 0 ∧ (0 ≤ (s.2 6) 24 ∧ (s.2 6) 24 ≤ 100) ∧ ((s.1 21) = 0 → (s.2 6) 27 = 0) ∧ (0 ≤ (s.2 6) 28 ∧ (s.2 6) 28 ≤ 6) ∧ (0 ≤ (s.2 6) 29 ∧ (s.2 6) 29 ≤ 20) ∧ (0 ≤ (s.2 6) 26 ∧ (s.2 6) 26 ≤ 200000)) (x1 : Int) (x2 : Int) (f6 : Int → Int) (f7 : Int → Int) (f8 : Int → Int) (f9 : Int → Int) (k7 : Int) (k8 : Int) (k9 : Int) (k10 : Int) (k11 : Int) (k12 : Int) (k13 : Int) (k21 : Int) (hI : (k7 = s.1 7 ∧ k8 = s.1 8 ∧ k9 = s.1 9 ∧ k10 = s.1 10 ∧ k11 = s.1 11) ∧ (f6 = s.2 6 ∧ f7 = s.2 7 ∧ f8 = s.2 8 ∧ f9 = s.2 9 ∧ k21 = s.1 21) ∧ (k12 = 0 ∧ k13 = s.1 13) ∧ (x1 = bI (s.1 8 = 1 ∧ s.1 11 = 382984) ∧ x2 = bI (s.1 8 = 1 ∧ s.1 11 = 212302449)) ∧ ¬ (s.1 8 = 1 ∧ s.1 11 = 2427955)) (c_1 : x1 = 0) (c_17 : x2 = 0) (c_34 : ¬ x1 = 0) (o_40 : (0 ≤ (4 : Int) ∧ (4 : Int) < 6)) (c_42 : ¬ (f6 (24 + (4 : Int))) = 6) (c_44 : x2 = 0) : lex3 0 0 0 0 0 1 := by
  obtain ⟨p0, p1, p2, p3, p4, p5, p6, p7, p8⟩ := hp
  (try simp only [Int.add_zero, Int.reduceAdd, bI_0, bI_n, Classical.not_not, p3, true_and] at *)
  (try (have h2 := hI; clear hI; obtain ⟨⟨a1, a2, a3, a4, a5⟩, ⟨b1, b2, b3, b4, b5⟩, hJ⟩ := h2; subst a1 a2 a3 a4 a5 b1 b2 b3 b4 b5))
  (try (have h4 := hJ; obtain ⟨⟨d1, d2⟩, ⟨d3, d4⟩, hd⟩ := h4; clear hJ; subst d1 d2))
  (try simp only [Int.reduceEq, ↓reduceIte] at *)
  (try (have h3 := hJ; clear hJ; obtain ⟨hd, hg⟩ := h3))
  (try have g := hg.resolve_right (fun h => h.1 (by assumption)))
  (try have g := hg.resolve_left (fun h => absurd h.1 (by assumption)))
  (try (have c0 : k12 = 0 := c_1; subst c0))
  (try (have y := g.2.2.resolve_left (fun h => by omega); clear g hg; try clear o_22; try clear o_36; try clear o_57))
  (try (have y := g.2.2.resolve_right (fun h => by omega); clear g hg; try clear o_22; try clear o_36; try clear o_57))
  (try have ex := enx_b (t := s.2 4) p1)
  (try have q181 := q_18.1.1)
  (try have q311 := q_31.1.1)
  (try have q541 := q_54.1)
  (try have q661 := q_66.1.1)
  (try simp (disch := omega) only [i32_id] at *)
  (try unfold lex3)
  (try simp only [bI_0, bI_n, Classical.not_not] at *)
  (try simp (disch := omega) only [i32_id] at *)
  first | done | omega | ((repeat' (with_reducible apply And.intro)) <;> first | (show lnQ _ _ _ _ _ _ _ _ _ _ _ _ _ _ _ _; have hx : x1 = 0 := c_4; exact lnQ_n y.2.1 y.2.2 rfl q_18 (by rw [rep_h (i := 5) (by decide), rep_t (i := s.2 6 29) rfl]; rfl)) | (show lnQ _ _ _ _ _ _ _ _ _ _ _ _ _ _ _ _; have hx : ¬ x1 = 0 := c_4; exact lnQ_s1 y.2.1 y.2.2 q_31 (by assumption)) | (show lnQ _ _ _ _ _ _ _ _ _ _ _ _ _ _ _ _; have hx : ¬ x1 = 0 := c_4; exact lnQ_s2 y.2.1 y.2.2 q_31 (by assumption) q_54 (by assumption)) | (show lnQ _ _ _ _ _ _ _ _ _ _ _ _ _ _ _ _; have hx : ¬ x1 = 0 := c_4; exact lnQ_s3 y.2.1 y.2.2 q_31 (by assumption) q_54 (by assumption) q_66 (fun w v w2 v2 hx => by rw [rep_h (i := 4) (by decide), hx, rep_s (i := 4 * s.2 6 28 + 3) (by omega), rep_s (i := 4 * s.2 6 28 + 2) (by omega), rep_s (i := 4 * s.2 6 28 + 1) (by omega), rep_s (i := 4 * s.2 6 28) (by omega)]; rfl)) | (show lnQ _ _ _ _ _ _ _ _ _ _ _ _ _ _ _ _; exact lnQ_bad ⟨by omega, by omega⟩ hd g.2.2 g.2.1) | (exact lnG_a hd d3 (by assumption) (by assumption)) | (exact lnG_b hd d3 (by assumption) (by assumption)) | (exact lnG_c hd d4 (by assumption) (by assumption)) | (exact lnG_d hd d4 (by assumption) (by assumption) (by assumption)) | (exact lnG_e hd d3 d4 (by assumption) (by assumption)) | (exact lnG_x d3 d4 (by assumption) (by assumption)) | assumption | rfl | omega | (show lnQ _ _ _ _ _ _ _ _ _ _ _ _ _ _ _ _; exact lnQ_do q_16.1 (by omega) (by omega)) | (intro z hz; exact q_16.2.1 z (by omega)) | (exact q_16.2.2.1) | (intro z hz; rw [upI_n _ _ (by omega)]) | (intro z hz; rfl) | (intro z hz; rw [q_66.2.2.1 z (by omega) (by omega), q_31.2.2.1 z (by omega) (by omega)]) | (intro z hz; exact q_31.2.2.1 z (by omega) (by omega)) | grind [upI])
theorem vX3_line_47 (s : MS) (hp : 0 ≤ (s.1 7) ∧ (s.1 7) ≤ (s.1 6) ∧ (s.1 6) ≤ 800 ∧ (s.1 12) = 0 ∧ (0 ≤ (s.2 6) 24 ∧ (s.2 6) 24 ≤ 100) ∧ ((s.1 21) = 0 → (s.2 6) 27 = 0) ∧ (0 ≤ (s.2 6) 28 ∧ (s.2 6) 28 ≤ 6) ∧ (0 ≤ (s.2 6) 29 ∧ (s.2 6) 29 ≤ 20) ∧ (0 ≤ (s.2 6) 26 ∧ (s.2 6) 26 ≤ 200000)) (x1 : Int) (x2 : Int) (f6 : Int → Int) (f7 : Int → Int) (f8 : Int → Int) (f9 : Int → Int) (k7 : Int) (k8 : Int) (k9 : Int) (k10 : Int) (k11 : Int) (k12 : Int) (k13 : Int) (k21 : Int) (hI : (k7 = s.1 7 ∧ k8 = s.1 8 ∧ k9 = s.1 9 ∧ k10 = s.1 10 ∧ k11 = s.1 11) ∧ (f6 = s.2 6 ∧ f7 = s.2 7 ∧ f8 = s.2 8 ∧ f9 = s.2 9 ∧ k21 = s.1 21) ∧ (k12 = 0 ∧ k13 = s.1 13) ∧ (x1 = bI (s.1 8 = 1 ∧ s.1 11 = 382984) ∧ x2 = bI (s.1 8 = 1 ∧ s.1 11 = 212302449)) ∧ ¬ (s.1 8 = 1 ∧ s.1 11 = 2427955)) (c_1 : x1 = 0) (c_17 : x2 = 0) (c_34 : ¬ x1 = 0) (o_40 : (0 ≤ (4 : Int) ∧ (4 : Int) < 6)) (c_42 : ¬ (f6 (24 + (4 : Int))) = 6) (c_44 : ¬ x2 = 0) : (0 ≤ (5 : Int) ∧ (5 : Int) < 6) := by
  obtain ⟨p0, p1, p2, p3, p4, p5, p6, p7, p8⟩ := hp
  (try simp only [Int.add_zero, Int.reduceAdd, bI_0, bI_n, Classical.not_not, p3, true_and] at *)
  (try (have h2 := hI; clear hI; obtain ⟨⟨a1, a2, a3, a4, a5⟩, ⟨b1, b2, b3, b4, b5⟩, hJ⟩ := h2; subst a1 a2 a3 a4 a5 b1 b2 b3 b4 b5))
  (try (have h4 := hJ; obtain ⟨⟨d1, d2⟩, ⟨d3, d4⟩, hd⟩ := h4; clear hJ; subst d1 d2))
  (try simp only [Int.reduceEq, ↓reduceIte] at *)
  (try (have h3 := hJ; clear hJ; obtain ⟨hd, hg⟩ := h3))
  (try have g := hg.resolve_right (fun h => h.1 (by assumption)))
  (try have g := hg.resolve_left (fun h => absurd h.1 (by assumption)))
  (try (have c0 : k12 = 0 := c_1; subst c0))
  (try (have y := g.2.2.resolve_left (fun h => by omega); clear g hg; try clear o_22; try clear o_36; try clear o_57))
  (try (have y := g.2.2.resolve_right (fun h => by omega); clear g hg; try clear o_22; try clear o_36; try clear o_57))
  (try have ex := enx_b (t := s.2 4) p1)
  (try have q181 := q_18.1.1)
  (try have q311 := q_31.1.1)
  (try have q541 := q_54.1)
  (try have q661 := q_66.1.1)
  (try simp (disch := omega) only [i32_id] at *)
  (try unfold lex3)
  (try simp only [bI_0, bI_n, Classical.not_not] at *)
  (try simp (disch := omega) only [i32_id] at *)
  first | done | omega | ((repeat' (with_reducible apply And.intro)) <;> first | (show lnQ _ _ _ _ _ _ _ _ _ _ _ _ _ _ _ _; have hx : x1 = 0 := c_4; exact lnQ_n y.2.1 y.2.2 rfl q_18 (by rw [rep_h (i := 5) (by decide), rep_t (i := s.2 6 29) rfl]; rfl)) | (show lnQ _ _ _ _ _ _ _ _ _ _ _ _ _ _ _ _; have hx : ¬ x1 = 0 := c_4; exact lnQ_s1 y.2.1 y.2.2 q_31 (by assumption)) | (show lnQ _ _ _ _ _ _ _ _ _ _ _ _ _ _ _ _; have hx : ¬ x1 = 0 := c_4; exact lnQ_s2 y.2.1 y.2.2 q_31 (by assumption) q_54 (by assumption)) | (show lnQ _ _ _ _ _ _ _ _ _ _ _ _ _ _ _ _; have hx : ¬ x1 = 0 := c_4; exact lnQ_s3 y.2.1 y.2.2 q_31 (by assumption) q_54 (by assumption) q_66 (fun w v w2 v2 hx => by rw [rep_h (i := 4) (by decide), hx, rep_s (i := 4 * s.2 6 28 + 3) (by omega), rep_s (i := 4 * s.2 6 28 + 2) (by omega), rep_s (i := 4 * s.2 6 28 + 1) (by omega), rep_s (i := 4 * s.2 6 28) (by omega)]; rfl)) | (show lnQ _ _ _ _ _ _ _ _ _ _ _ _ _ _ _ _; exact lnQ_bad ⟨by omega, by omega⟩ hd g.2.2 g.2.1) | (exact lnG_a hd d3 (by assumption) (by assumption)) | (exact lnG_b hd d3 (by assumption) (by assumption)) | (exact lnG_c hd d4 (by assumption) (by assumption)) | (exact lnG_d hd d4 (by assumption) (by assumption) (by assumption)) | (exact lnG_e hd d3 d4 (by assumption) (by assumption)) | (exact lnG_x d3 d4 (by assumption) (by assumption)) | assumption | rfl | omega | (show lnQ _ _ _ _ _ _ _ _ _ _ _ _ _ _ _ _; exact lnQ_do q_16.1 (by omega) (by omega)) | (intro z hz; exact q_16.2.1 z (by omega)) | (exact q_16.2.2.1) | (intro z hz; rw [upI_n _ _ (by omega)]) | (intro z hz; rfl) | (intro z hz; rw [q_66.2.2.1 z (by omega) (by omega), q_31.2.2.1 z (by omega) (by omega)]) | (intro z hz; exact q_31.2.2.1 z (by omega) (by omega)) | grind [upI])
theorem vX3_line_48 (s : MS) (hp : 0 ≤ (s.1 7) ∧ (s.1 7) ≤ (s.1 6) ∧ (s.1 6) ≤ 800 ∧ (s.1 12) = 0 ∧ (0 ≤ (s.2 6) 24 ∧ (s.2 6) 24 ≤ 100) ∧ ((s.1 21) = 0 → (s.2 6) 27 = 0) ∧ (0 ≤ (s.2 6) 28 ∧ (s.2 6) 28 ≤ 6) ∧ (0 ≤ (s.2 6) 29 ∧ (s.2 6) 29 ≤ 20) ∧ (0 ≤ (s.2 6) 26 ∧ (s.2 6) 26 ≤ 200000)) (x1 : Int) (x2 : Int) (f6 : Int → Int) (f7 : Int → Int) (f8 : Int → Int) (f9 : Int → Int) (k7 : Int) (k8 : Int) (k9 : Int) (k10 : Int) (k11 : Int) (k12 : Int) (k13 : Int) (k21 : Int) (hI : (k7 = s.1 7 ∧ k8 = s.1 8 ∧ k9 = s.1 9 ∧ k10 = s.1 10 ∧ k11 = s.1 11) ∧ (f6 = s.2 6 ∧ f7 = s.2 7 ∧ f8 = s.2 8 ∧ f9 = s.2 9 ∧ k21 = s.1 21) ∧ (k12 = 0 ∧ k13 = s.1 13) ∧ (x1 = bI (s.1 8 = 1 ∧ s.1 11 = 382984) ∧ x2 = bI (s.1 8 = 1 ∧ s.1 11 = 212302449)) ∧ ¬ (s.1 8 = 1 ∧ s.1 11 = 2427955)) (c_1 : x1 = 0) (c_17 : x2 = 0) (c_34 : ¬ x1 = 0) (o_40 : (0 ≤ (4 : Int) ∧ (4 : Int) < 6)) (c_42 : ¬ (f6 (24 + (4 : Int))) = 6) (c_44 : ¬ x2 = 0) (o_45 : (0 ≤ (5 : Int) ∧ (5 : Int) < 6)) (c_47 : ¬ (f6 (24 + (5 : Int))) = 20) : (k7 = s.1 7 ∧ k8 = s.1 8 ∧ k9 = s.1 9 ∧ k10 = s.1 10 ∧ k11 = s.1 11) ∧ (f6 = s.2 6 ∧ f7 = s.2 7 ∧ f8 = s.2 8 ∧ f9 = s.2 9 ∧ k21 = s.1 21) ∧ lnG (s.1 8) (s.1 11) (s.2 6 28) (s.2 6 29) (if k12 = 0 then (1 : Int) else k12) (if k12 = 0 then k9 else k13) (s.1 13) (s.1 9) x1 := by
  obtain ⟨p0, p1, p2, p3, p4, p5, p6, p7, p8⟩ := hp
  (try simp only [Int.add_zero, Int.reduceAdd, bI_0, bI_n, Classical.not_not, p3, true_and] at *)
  (try (have h2 := hI; clear hI; obtain ⟨⟨a1, a2, a3, a4, a5⟩, ⟨b1, b2, b3, b4, b5⟩, hJ⟩ := h2; subst a1 a2 a3 a4 a5 b1 b2 b3 b4 b5))
  (try (have h4 := hJ; obtain ⟨⟨d1, d2⟩, ⟨d3, d4⟩, hd⟩ := h4; clear hJ; subst d1 d2))
  (try simp only [Int.reduceEq, ↓reduceIte] at *)
  (try (have h3 := hJ; clear hJ; obtain ⟨hd, hg⟩ := h3))
  (try have g := hg.resolve_right (fun h => h.1 (by assumption)))
  (try have g := hg.resolve_left (fun h => absurd h.1 (by assumption)))
  (try (have c0 : k12 = 0 := c_1; subst c0))
  (try (have y := g.2.2.resolve_left (fun h => by omega); clear g hg; try clear o_22; try clear o_36; try clear o_57))
  (try (have y := g.2.2.resolve_right (fun h => by omega); clear g hg; try clear o_22; try clear o_36; try clear o_57))
  (try have ex := enx_b (t := s.2 4) p1)
  (try have q181 := q_18.1.1)
  (try have q311 := q_31.1.1)
  (try have q541 := q_54.1)
  (try have q661 := q_66.1.1)
  (try simp (disch := omega) only [i32_id] at *)
  (try unfold lex3)
  (try simp only [bI_0, bI_n, Classical.not_not] at *)
  (try simp (disch := omega) only [i32_id] at *)
  first | done | omega | ((repeat' (with_reducible apply And.intro)) <;> first | (show lnQ _ _ _ _ _ _ _ _ _ _ _ _ _ _ _ _; have hx : x1 = 0 := c_4; exact lnQ_n y.2.1 y.2.2 rfl q_18 (by rw [rep_h (i := 5) (by decide), rep_t (i := s.2 6 29) rfl]; rfl)) | (show lnQ _ _ _ _ _ _ _ _ _ _ _ _ _ _ _ _; have hx : ¬ x1 = 0 := c_4; exact lnQ_s1 y.2.1 y.2.2 q_31 (by assumption)) | (show lnQ _ _ _ _ _ _ _ _ _ _ _ _ _ _ _ _; have hx : ¬ x1 = 0 := c_4; exact lnQ_s2 y.2.1 y.2.2 q_31 (by assumption) q_54 (by assumption)) | (show lnQ _ _ _ _ _ _ _ _ _ _ _ _ _ _ _ _; have hx : ¬ x1 = 0 := c_4; exact lnQ_s3 y.2.1 y.2.2 q_31 (by assumption) q_54 (by assumption) q_66 (fun w v w2 v2 hx => by rw [rep_h (i := 4) (by decide), hx, rep_s (i := 4 * s.2 6 28 + 3) (by omega), rep_s (i := 4 * s.2 6 28 + 2) (by omega), rep_s (i := 4 * s.2 6 28 + 1) (by omega), rep_s (i := 4 * s.2 6 28) (by omega)]; rfl)) | (show lnQ _ _ _ _ _ _ _ _ _ _ _ _ _ _ _ _; exact lnQ_bad ⟨by omega, by omega⟩ hd g.2.2 g.2.1) | (exact lnG_a hd d3 (by assumption) (by assumption)) | (exact lnG_b hd d3 (by assumption) (by assumption)) | (exact lnG_c hd d4 (by assumption) (by assumption)) | (exact lnG_d hd d4 (by assumption) (by assumption) (by assumption)) | (exact lnG_e hd d3 d4 (by assumption) (by assumption)) | (exact lnG_x d3 d4 (by assumption) (by assumption)) | assumption | rfl | omega | (show lnQ _ _ _ _ _ _ _ _ _ _ _ _ _ _ _ _; exact lnQ_do q_16.1 (by omega) (by omega)) | (intro z hz; exact q_16.2.1 z (by omega)) | (exact q_16.2.2.1) | (intro z hz; rw [upI_n _ _ (by omega)]) | (intro z hz; rfl) | (intro z hz; rw [q_66.2.2.1 z (by omega) (by omega), q_31.2.2.1 z (by omega) (by omega)]) | (intro z hz; exact q_31.2.2.1 z (by omega) (by omega)) | grind [upI])
theorem vX3_line_49 (s : MS) (hp : 0 ≤ (s.1 7) ∧ (s.1 7) ≤ (s.1 6) ∧ (s.1 6) ≤ 800 ∧ (s.1 12) = 0 ∧ (0 ≤ (s.2 6) 24 ∧ (s.2 6) 24 ≤ 100) ∧ ((s.1 21) = 0 → (s.2 6) 27 = 0) ∧ (0 ≤ (s.2 6) 28 ∧ (s.2 6) 28 ≤ 6) ∧ (0 ≤ (s.2 6) 29 ∧ (s.2 6) 29 ≤ 20) ∧ (0 ≤ (s.2 6) 26 ∧ (s.2 6) 26 ≤ 200000)) (x1 : Int) (x2 : Int) (f6 : Int → Int) (f7 : Int → Int) (f8 : Int → Int) (f9 : Int → Int) (k7 : Int) (k8 : Int) (k9 : Int) (k10 : Int) (k11 : Int) (k12 : Int) (k13 : Int) (k21 : Int) (hI : (k7 = s.1 7 ∧ k8 = s.1 8 ∧ k9 = s.1 9 ∧ k10 = s.1 10 ∧ k11 = s.1 11) ∧ (f6 = s.2 6 ∧ f7 = s.2 7 ∧ f8 = s.2 8 ∧ f9 = s.2 9 ∧ k21 = s.1 21) ∧ (k12 = 0 ∧ k13 = s.1 13) ∧ (x1 = bI (s.1 8 = 1 ∧ s.1 11 = 382984) ∧ x2 = bI (s.1 8 = 1 ∧ s.1 11 = 212302449)) ∧ ¬ (s.1 8 = 1 ∧ s.1 11 = 2427955)) (c_1 : x1 = 0) (c_17 : x2 = 0) (c_34 : ¬ x1 = 0) (o_40 : (0 ≤ (4 : Int) ∧ (4 : Int) < 6)) (c_42 : ¬ (f6 (24 + (4 : Int))) = 6) (c_44 : ¬ x2 = 0) (o_45 : (0 ≤ (5 : Int) ∧ (5 : Int) < 6)) (c_47 : ¬ (f6 (24 + (5 : Int))) = 20) : lex3 0 0 0 0 0 1 := by
  obtain ⟨p0, p1, p2, p3, p4, p5, p6, p7, p8⟩ := hp
  (try simp only [Int.add_zero, Int.reduceAdd, bI_0, bI_n, Classical.not_not, p3, true_and] at *)
  (try (have h2 := hI; clear hI; obtain ⟨⟨a1, a2, a3, a4, a5⟩, ⟨b1, b2, b3, b4, b5⟩, hJ⟩ := h2; subst a1 a2 a3 a4 a5 b1 b2 b3 b4 b5))
  (try (have h4 := hJ; obtain ⟨⟨d1, d2⟩, ⟨d3, d4⟩, hd⟩ := h4; clear hJ; subst d1 d2))
  (try simp only [Int.reduceEq, ↓reduceIte] at *)
  (try (have h3 := hJ; clear hJ; obtain ⟨hd, hg⟩ := h3))
  (try have g := hg.resolve_right (fun h => h.1 (by assumption)))
  (try have g := hg.resolve_left (fun h => absurd h.1 (by assumption)))
  (try (have c0 : k12 = 0 := c_1; subst c0))
  (try (have y := g.2.2.resolve_left (fun h => by omega); clear g hg; try clear o_22; try clear o_36; try clear o_57))
  (try (have y := g.2.2.resolve_right (fun h => by omega); clear g hg; try clear o_22; try clear o_36; try clear o_57))
  (try have ex := enx_b (t := s.2 4) p1)
  (try have q181 := q_18.1.1)
  (try have q311 := q_31.1.1)
  (try have q541 := q_54.1)
  (try have q661 := q_66.1.1)
  (try simp (disch := omega) only [i32_id] at *)
  (try unfold lex3)
  (try simp only [bI_0, bI_n, Classical.not_not] at *)
  (try simp (disch := omega) only [i32_id] at *)
  first | done | omega | ((repeat' (with_reducible apply And.intro)) <;> first | (show lnQ _ _ _ _ _ _ _ _ _ _ _ _ _ _ _ _; have hx : x1 = 0 := c_4; exact lnQ_n y.2.1 y.2.2 rfl q_18 (by rw [rep_h (i := 5) (by decide), rep_t (i := s.2 6 29) rfl]; rfl)) | (show lnQ _ _ _ _ _ _ _ _ _ _ _ _ _ _ _ _; have hx : ¬ x1 = 0 := c_4; exact lnQ_s1 y.2.1 y.2.2 q_31 (by assumption)) | (show lnQ _ _ _ _ _ _ _ _ _ _ _ _ _ _ _ _; have hx : ¬ x1 = 0 := c_4; exact lnQ_s2 y.2.1 y.2.2 q_31 (by assumption) q_54 (by assumption)) | (show lnQ _ _ _ _ _ _ _ _ _ _ _ _ _ _ _ _; have hx : ¬ x1 = 0 := c_4; exact lnQ_s3 y.2.1 y.2.2 q_31 (by assumption) q_54 (by assumption) q_66 (fun w v w2 v2 hx => by rw [rep_h (i := 4) (by decide), hx, rep_s (i := 4 * s.2 6 28 + 3) (by omega), rep_s (i := 4 * s.2 6 28 + 2) (by omega), rep_s (i := 4 * s.2 6 28 + 1) (by omega), rep_s (i := 4 * s.2 6 28) (by omega)]; rfl)) | (show lnQ _ _ _ _ _ _ _ _ _ _ _ _ _ _ _ _; exact lnQ_bad ⟨by omega, by omega⟩ hd g.2.2 g.2.1) | (exact lnG_a hd d3 (by assumption) (by assumption)) | (exact lnG_b hd d3 (by assumption) (by assumption)) | (exact lnG_c hd d4 (by assumption) (by assumption)) | (exact lnG_d hd d4 (by assumption) (by assumption) (by assumption)) | (exact lnG_e hd d3 d4 (by assumption) (by assumption)) | (exact lnG_x d3 d4 (by assumption) (by assumption)) | assumption | rfl | omega | (show lnQ _ _ _ _ _ _ _ _ _ _ _ _ _ _ _ _; exact lnQ_do q_16.1 (by omega) (by omega)) | (intro z hz; exact q_16.2.1 z (by omega)) | (exact q_16.2.2.1) | (intro z hz; rw [upI_n _ _ (by omega)]) | (intro z hz; rfl) | (intro z hz; rw [q_66.2.2.1 z (by omega) (by omega), q_31.2.2.1 z (by omega) (by omega)]) | (intro z hz; exact q_31.2.2.1 z (by omega) (by omega)) | grind [upI])
theorem vX3_line_50 (s : MS) (hp : 0 ≤ (s.1 7) ∧ (s.1 7) ≤ (s.1 6) ∧ (s.1 6) ≤ 800 ∧ (s.1 12) = 0 ∧ (0 ≤ (s.2 6) 24 ∧ (s.2 6) 24 ≤ 100) ∧ ((s.1 21) = 0 → (s.2 6) 27 = 0) ∧ (0 ≤ (s.2 6) 28 ∧ (s.2 6) 28 ≤ 6) ∧ (0 ≤ (s.2 6) 29 ∧ (s.2 6) 29 ≤ 20) ∧ (0 ≤ (s.2 6) 26 ∧ (s.2 6) 26 ≤ 200000)) (x1 : Int) (x2 : Int) (f6 : Int → Int) (f7 : Int → Int) (f8 : Int → Int) (f9 : Int → Int) (k7 : Int) (k8 : Int) (k9 : Int) (k10 : Int) (k11 : Int) (k12 : Int) (k13 : Int) (k21 : Int) (hI : (k7 = s.1 7 ∧ k8 = s.1 8 ∧ k9 = s.1 9 ∧ k10 = s.1 10 ∧ k11 = s.1 11) ∧ (f6 = s.2 6 ∧ f7 = s.2 7 ∧ f8 = s.2 8 ∧ f9 = s.2 9 ∧ k21 = s.1 21) ∧ (k12 = 0 ∧ k13 = s.1 13) ∧ (x1 = bI (s.1 8 = 1 ∧ s.1 11 = 382984) ∧ x2 = bI (s.1 8 = 1 ∧ s.1 11 = 212302449)) ∧ ¬ (s.1 8 = 1 ∧ s.1 11 = 2427955)) (c_1 : x1 = 0) (c_17 : x2 = 0) (c_34 : ¬ x1 = 0) (o_40 : (0 ≤ (4 : Int) ∧ (4 : Int) < 6)) (c_42 : ¬ (f6 (24 + (4 : Int))) = 6) (c_44 : ¬ x2 = 0) (o_45 : (0 ≤ (5 : Int) ∧ (5 : Int) < 6)) (c_47 : (f6 (24 + (5 : Int))) = 20) : (k7 = s.1 7 ∧ k8 = s.1 8 ∧ k9 = s.1 9 ∧ k10 = s.1 10 ∧ k11 = s.1 11) ∧ (f6 = s.2 6 ∧ f7 = s.2 7 ∧ f8 = s.2 8 ∧ f9 = s.2 9 ∧ k21 = s.1 21) ∧ lnG (s.1 8) (s.1 11) (s.2 6 28) (s.2 6 29) (if (if k12 = 0 then (1 : Int) else k12) = 0 then (3 : Int) else (if k12 = 0 then (1 : Int) else k12)) (if (if k12 = 0 then (1 : Int) else k12) = 0 then k9 else (if k12 = 0 then k9 else k13)) (s.1 13) (s.1 9) x1 := by
  obtain ⟨p0, p1, p2, p3, p4, p5, p6, p7, p8⟩ := hp
  (try simp only [Int.add_zero, Int.reduceAdd, bI_0, bI_n, Classical.not_not, p3, true_and] at *)
  (try (have h2 := hI; clear hI; obtain ⟨⟨a1, a2, a3, a4, a5⟩, ⟨b1, b2, b3, b4, b5⟩, hJ⟩ := h2; subst a1 a2 a3 a4 a5 b1 b2 b3 b4 b5))
  (try (have h4 := hJ; obtain ⟨⟨d1, d2⟩, ⟨d3, d4⟩, hd⟩ := h4; clear hJ; subst d1 d2))
  (try simp only [Int.reduceEq, ↓reduceIte] at *)
  (try (have h3 := hJ; clear hJ; obtain ⟨hd, hg⟩ := h3))
  (try have g := hg.resolve_right (fun h => h.1 (by assumption)))
  (try have g := hg.resolve_left (fun h => absurd h.1 (by assumption)))
  (try (have c0 : k12 = 0 := c_1; subst c0))
  (try (have y := g.2.2.resolve_left (fun h => by omega); clear g hg; try clear o_22; try clear o_36; try clear o_57))
  (try (have y := g.2.2.resolve_right (fun h => by omega); clear g hg; try clear o_22; try clear o_36; try clear o_57))
  (try have ex := enx_b (t := s.2 4) p1)
  (try have q181 := q_18.1.1)
  (try have q311 := q_31.1.1)
  (try have q541 := q_54.1)
  (try have q661 := q_66.1.1)
  (try simp (disch := omega) only [i32_id] at *)
  (try unfold lex3)
  (try simp only [bI_0, bI_n, Classical.not_not] at *)
  (try simp (disch := omega) only [i32_id] at *)
  first | done | omega | ((repeat' (with_reducible apply And.intro)) <;> first | (show lnQ _ _ _ _ _ _ _ _ _ _ _ _ _ _ _ _; have hx : x1 = 0 := c_4; exact lnQ_n y.2.1 y.2.2 rfl q_18 (by rw [rep_h (i := 5) (by decide), rep_t (i := s.2 6 29) rfl]; rfl)) | (show lnQ _ _ _ _ _ _ _ _ _ _ _ _ _ _ _ _; have hx : ¬ x1 = 0 := c_4; exact lnQ_s1 y.2.1 y.2.2 q_31 (by assumption)) | (show lnQ _ _ _ _ _ _ _ _ _ _ _ _ _ _ _ _; have hx : ¬ x1 = 0 := c_4; exact lnQ_s2 y.2.1 y.2.2 q_31 (by assumption) q_54 (by assumption)) | (show lnQ _ _ _ _ _ _ _ _ _ _ _ _ _ _ _ _; have hx : ¬ x1 = 0 := c_4; exact lnQ_s3 y.2.1 y.2.2 q_31 (by assumption) q_54 (by assumption) q_66 (fun w v w2 v2 hx => by rw [rep_h (i := 4) (by decide), hx, rep_s (i := 4 * s.2 6 28 + 3) (by omega), rep_s (i := 4 * s.2 6 28 + 2) (by omega), rep_s (i := 4 * s.2 6 28 + 1) (by omega), rep_s (i := 4 * s.2 6 28) (by omega)]; rfl)) | (show lnQ _ _ _ _ _ _ _ _ _ _ _ _ _ _ _ _; exact lnQ_bad ⟨by omega, by omega⟩ hd g.2.2 g.2.1) | (exact lnG_a hd d3 (by assumption) (by assumption)) | (exact lnG_b hd d3 (by assumption) (by assumption)) | (exact lnG_c hd d4 (by assumption) (by assumption)) | (exact lnG_d hd d4 (by assumption) (by assumption) (by assumption)) | (exact lnG_e hd d3 d4 (by assumption) (by assumption)) | (exact lnG_x d3 d4 (by assumption) (by assumption)) | assumption | rfl | omega | (show lnQ _ _ _ _ _ _ _ _ _ _ _ _ _ _ _ _; exact lnQ_do q_16.1 (by omega) (by omega)) | (intro z hz; exact q_16.2.1 z (by omega)) | (exact q_16.2.2.1) | (intro z hz; rw [upI_n _ _ (by omega)]) | (intro z hz; rfl) | (intro z hz; rw [q_66.2.2.1 z (by omega) (by omega), q_31.2.2.1 z (by omega) (by omega)]) | (intro z hz; exact q_31.2.2.1 z (by omega) (by omega)) | grind [upI])
theorem vX3_line_51 (s : MS) (hp : 0 ≤ (s.1 7) ∧ (s.1 7) ≤ (s.1 6) ∧ (s.1 6) ≤ 800 ∧ (s.1 12) = 0 ∧ (0 ≤ (s.2 6) 24 ∧ (s.2 6) 24 ≤ 100) ∧ ((s.1 21) = 0 → (s.2 6) 27 = 0) ∧ (0 ≤ (s.2 6) 28 ∧ (s.2 6) 28 ≤ 6) ∧ (0 ≤ (s.2 6) 29 ∧ (s.2 6) 29 ≤ 20) ∧ (0 ≤ (s.2 6) 26 ∧ (s.2 6) 26 ≤ 200000)) (x1 : Int) (x2 : Int) (f6 : Int → Int) (f7 : Int → Int) (f8 : Int → Int) (f9 : Int → Int) (k7 : Int) (k8 : Int) (k9 : Int) (k10 : Int) (k11 : Int) (k12 : Int) (k13 : Int) (k21 : Int) (hI : (k7 = s.1 7 ∧ k8 = s.1 8 ∧ k9 = s.1 9 ∧ k10 = s.1 10 ∧ k11 = s.1 11) ∧ (f6 = s.2 6 ∧ f7 = s.2 7 ∧ f8 = s.2 8 ∧ f9 = s.2 9 ∧ k21 = s.1 21) ∧ (k12 = 0 ∧ k13 = s.1 13) ∧ (x1 = bI (s.1 8 = 1 ∧ s.1 11 = 382984) ∧ x2 = bI (s.1 8 = 1 ∧ s.1 11 = 212302449)) ∧ ¬ (s.1 8 = 1 ∧ s.1 11 = 2427955)) (c_1 : x1 = 0) (c_17 : x2 = 0) (c_34 : ¬ x1 = 0) (o_40 : (0 ≤ (4 : Int) ∧ (4 : Int) < 6)) (c_42 : ¬ (f6 (24 + (4 : Int))) = 6) (c_44 : ¬ x2 = 0) (o_45 : (0 ≤ (5 : Int) ∧ (5 : Int) < 6)) (c_47 : (f6 (24 + (5 : Int))) = 20) : lex3 0 0 0 0 0 1 := by
  obtain ⟨p0, p1, p2, p3, p4, p5, p6, p7, p8⟩ := hp
  (try simp only [Int.add_zero, Int.reduceAdd, bI_0, bI_n, Classical.not_not, p3, true_and] at *)
  (try (have h2 := hI; clear hI; obtain ⟨⟨a1, a2, a3, a4, a5⟩, ⟨b1, b2, b3, b4, b5⟩, hJ⟩ := h2; subst a1 a2 a3 a4 a5 b1 b2 b3 b4 b5))
  (try (have h4 := hJ; obtain ⟨⟨d1, d2⟩, ⟨d3, d4⟩, hd⟩ := h4; clear hJ; subst d1 d2))
  (try simp only [Int.reduceEq, ↓reduceIte] at *)
  (try (have h3 := hJ; clear hJ; obtain ⟨hd, hg⟩ := h3))
  (try have g := hg.resolve_right (fun h => h.1 (by assumption)))
  (try have g := hg.resolve_left (fun h => absurd h.1 (by assumption)))
  (try (have c0 : k12 = 0 := c_1; subst c0))
  (try (have y := g.2.2.resolve_left (fun h => by omega); clear g hg; try clear o_22; try clear o_36; try clear o_57))
  (try (have y := g.2.2.resolve_right (fun h => by omega); clear g hg; try clear o_22; try clear o_36; try clear o_57))
  (try have ex := enx_b (t := s.2 4) p1)
  (try have q181 := q_18.1.1)
  (try have q311 := q_31.1.1)
  (try have q541 := q_54.1)
  (try have q661 := q_66.1.1)
  (try simp (disch := omega) only [i32_id] at *)
  (try unfold lex3)
  (try simp only [bI_0, bI_n, Classical.not_not] at *)
  (try simp (disch := omega) only [i32_id] at *)
  first | done | omega | ((repeat' (with_reducible apply And.intro)) <;> first | (show lnQ _ _ _ _ _ _ _ _ _ _ _ _ _ _ _ _; have hx : x1 = 0 := c_4; exact lnQ_n y.2.1 y.2.2 rfl q_18 (by rw [rep_h (i := 5) (by decide), rep_t (i := s.2 6 29) rfl]; rfl)) | (show lnQ _ _ _ _ _ _ _ _ _ _ _ _ _ _ _ _; have hx : ¬ x1 = 0 := c_4; exact lnQ_s1 y.2.1 y.2.2 q_31 (by assumption)) | (show lnQ _ _ _ _ _ _ _ _ _ _ _ _ _ _ _ _; have hx : ¬ x1 = 0 := c_4; exact lnQ_s2 y.2.1 y.2.2 q_31 (by assumption) q_54 (by assumption)) | (show lnQ _ _ _ _ _ _ _ _ _ _ _ _ _ _ _ _; have hx : ¬ x1 = 0 := c_4; exact lnQ_s3 y.2.1 y.2.2 q_31 (by assumption) q_54 (by assumption) q_66 (fun w v w2 v2 hx => by rw [rep_h (i := 4) (by decide), hx, rep_s (i := 4 * s.2 6 28 + 3) (by omega), rep_s (i := 4 * s.2 6 28 + 2) (by omega), rep_s (i := 4 * s.2 6 28 + 1) (by omega), rep_s (i := 4 * s.2 6 28) (by omega)]; rfl)) | (show lnQ _ _ _ _ _ _ _ _ _ _ _ _ _ _ _ _; exact lnQ_bad ⟨by omega, by omega⟩ hd g.2.2 g.2.1) | (exact lnG_a hd d3 (by assumption) (by assumption)) | (exact lnG_b hd d3 (by assumption) (by assumption)) | (exact lnG_c hd d4 (by assumption) (by assumption)) | (exact lnG_d hd d4 (by assumption) (by assumption) (by assumption)) | (exact lnG_e hd d3 d4 (by assumption) (by assumption)) | (exact lnG_x d3 d4 (by assumption) (by assumption)) | assumption | rfl | omega | (show lnQ _ _ _ _ _ _ _ _ _ _ _ _ _ _ _ _; exact lnQ_do q_16.1 (by omega) (by omega)) | (intro z hz; exact q_16.2.1 z (by omega)) | (exact q_16.2.2.1) | (intro z hz; rw [upI_n _ _ (by omega)]) | (intro z hz; rfl) | (intro z hz; rw [q_66.2.2.1 z (by omega) (by omega), q_31.2.2.1 z (by omega) (by omega)]) | (intro z hz; exact q_31.2.2.1 z (by omega) (by omega)) | grind [upI])
theorem vX3_line_52 (s : MS) (hp : 0 ≤ (s.1 7) ∧ (s.1 7) ≤ (s.1 6) ∧ (s.1 6) ≤ 800 ∧ (s.1 12) = 0 ∧ (0 ≤ (s.2 6) 24 ∧ (s.2 6) 24 ≤ 100) ∧ ((s.1 21) = 0 → (s.2 6) 27 = 0) ∧ (0 ≤ (s.2 6) 28 ∧ (s.2 6) 28 ≤ 6) ∧ (0 ≤ (s.2 6) 29 ∧ (s.2 6) 29 ≤ 20) ∧ (0 ≤ (s.2 6) 26 ∧ (s.2 6) 26 ≤ 200000)) (x1 : Int) (f6 : Int → Int) (f7 : Int → Int) (f8 : Int → Int) (f9 : Int → Int) (k7 : Int) (k8 : Int) (k9 : Int) (k10 : Int) (k11 : Int) (k12 : Int) (k13 : Int) (k21 : Int) (hI : (k7 = s.1 7 ∧ k8 = s.1 8 ∧ k9 = s.1 9 ∧ k10 = s.1 10 ∧ k11 = s.1 11) ∧ (f6 = s.2 6 ∧ f7 = s.2 7 ∧ f8 = s.2 8 ∧ f9 = s.2 9 ∧ k21 = s.1 21) ∧ lnG (s.1 8) (s.1 11) (s.2 6 28) (s.2 6 29) k12 k13 (s.1 13) (s.1 9) x1) (c_1 : k12 = 0) : (0 ≤ k7 ∧ k7 ≤ (s.1 6) ∧ (s.1 6) ≤ 800) := by
  obtain ⟨p0, p1, p2, p3, p4, p5, p6, p7, p8⟩ := hp
  (try simp only [Int.add_zero, Int.reduceAdd, bI_0, bI_n, Classical.not_not, p3, true_and] at *)
  (try (have h2 := hI; clear hI; obtain ⟨⟨a1, a2, a3, a4, a5⟩, ⟨b1, b2, b3, b4, b5⟩, hJ⟩ := h2; subst a1 a2 a3 a4 a5 b1 b2 b3 b4 b5))
  (try (have h4 := hJ; obtain ⟨⟨d1, d2⟩, ⟨d3, d4⟩, hd⟩ := h4; clear hJ; subst d1 d2))
  (try simp only [Int.reduceEq, ↓reduceIte] at *)
  (try (have h3 := hJ; clear hJ; obtain ⟨hd, hg⟩ := h3))
  (try have g := hg.resolve_right (fun h => h.1 (by assumption)))
  (try have g := hg.resolve_left (fun h => absurd h.1 (by assumption)))
  (try (have c0 : k12 = 0 := c_1; subst c0))
  (try (have y := g.2.2.resolve_left (fun h => by omega); clear g hg; try clear o_22; try clear o_36; try clear o_57))
  (try (have y := g.2.2.resolve_right (fun h => by omega); clear g hg; try clear o_22; try clear o_36; try clear o_57))
  (try have ex := enx_b (t := s.2 4) p1)
  (try have q181 := q_18.1.1)
  (try have q311 := q_31.1.1)
  (try have q541 := q_54.1)
  (try have q661 := q_66.1.1)
  (try simp (disch := omega) only [i32_id] at *)
  (try unfold lex3)
  (try simp only [bI_0, bI_n, Classical.not_not] at *)
  (try simp (disch := omega) only [i32_id] at *)
  first | done | omega | ((repeat' (with_reducible apply And.intro)) <;> first | (show lnQ _ _ _ _ _ _ _ _ _ _ _ _ _ _ _ _; have hx : x1 = 0 := c_4; exact lnQ_n y.2.1 y.2.2 rfl q_18 (by rw [rep_h (i := 5) (by decide), rep_t (i := s.2 6 29) rfl]; rfl)) | (show lnQ _ _ _ _ _ _ _ _ _ _ _ _ _ _ _ _; have hx : ¬ x1 = 0 := c_4; exact lnQ_s1 y.2.1 y.2.2 q_31 (by assumption)) | (show lnQ _ _ _ _ _ _ _ _ _ _ _ _ _ _ _ _; have hx : ¬ x1 = 0 := c_4; exact lnQ_s2 y.2.1 y.2.2 q_31 (by assumption) q_54 (by assumption)) | (show lnQ _ _ _ _ _ _ _ _ _ _ _ _ _ _ _ _; have hx : ¬ x1 = 0 := c_4; exact lnQ_s3 y.2.1 y.2.2 q_31 (by assumption) q_54 (by assumption) q_66 (fun w v w2 v2 hx => by rw [rep_h (i := 4) (by decide), hx, rep_s (i := 4 * s.2 6 28 + 3) (by omega), rep_s (i := 4 * s.2 6 28 + 2) (by omega), rep_s (i := 4 * s.2 6 28 + 1) (by omega), rep_s (i := 4 * s.2 6 28) (by omega)]; rfl)) | (show lnQ _ _ _ _ _ _ _ _ _ _ _ _ _ _ _ _; exact lnQ_bad ⟨by omega, by omega⟩ hd g.2.2 g.2.1) | (exact lnG_a hd d3 (by assumption) (by assumption)) | (exact lnG_b hd d3 (by assumption) (by assumption)) | (exact lnG_c hd d4 (by assumption) (by assumption)) | (exact lnG_d hd d4 (by assumption) (by assumption) (by assumption)) | (exact lnG_e hd d3 d4 (by assumption) (by assumption)) | (exact lnG_x d3 d4 (by assumption) (by assumption)) | assumption | rfl | omega | (show lnQ _ _ _ _ _ _ _ _ _ _ _ _ _ _ _ _; exact lnQ_do q_16.1 (by omega) (by omega)) | (intro z hz; exact q_16.2.1 z (by omega)) | (exact q_16.2.2.1) | (intro z hz; rw [upI_n _ _ (by omega)]) | (intro z hz; rfl) | (intro z hz; rw [q_66.2.2.1 z (by omega) (by omega), q_31.2.2.1 z (by omega) (by omega)]) | (intro z hz; exact q_31.2.2.1 z (by omega) (by omega)) | grind [upI])
theorem vX3_line_53 (s : MS) (hp : 0 ≤ (s.1 7) ∧ (s.1 7) ≤ (s.1 6) ∧ (s.1 6) ≤ 800 ∧ (s.1 12) = 0 ∧ (0 ≤ (s.2 6) 24 ∧ (s.2 6) 24 ≤ 100) ∧ ((s.1 21) = 0 → (s.2 6) 27 = 0) ∧ (0 ≤ (s.2 6) 28 ∧ (s.2 6) 28 ≤ 6) ∧ (0 ≤ (s.2 6) 29 ∧ (s.2 6) 29 ≤ 20) ∧ (0 ≤ (s.2 6) 26 ∧ (s.2 6) 26 ≤ 200000)) (x1 : Int) (f6 : Int → Int) (f7 : Int → Int) (f8 : Int → Int) (f9 : Int → Int) (k7 : Int) (k8 : Int) (k9 : Int) (k10 : Int) (k11 : Int) (k12 : Int) (k13 : Int) (k21 : Int) (hI : (k7 = s.1 7 ∧ k8 = s.1 8 ∧ k9 = s.1 9 ∧ k10 = s.1 10 ∧ k11 = s.1 11) ∧ (f6 = s.2 6 ∧ f7 = s.2 7 ∧ f8 = s.2 8 ∧ f9 = s.2 9 ∧ k21 = s.1 21) ∧ lnG (s.1 8) (s.1 11) (s.2 6 28) (s.2 6 29) k12 k13 (s.1 13) (s.1 9) x1) (c_1 : k12 = 0) (o_2 : (0 ≤ k7 ∧ k7 ≤ (s.1 6) ∧ (s.1 6) ≤ 800)) (c_4 : x1 = 0) : (0 ≤ (5 : Int) ∧ (5 : Int) < 6) := by
  obtain ⟨p0, p1, p2, p3, p4, p5, p6, p7, p8⟩ := hp
  (try simp only [Int.add_zero, Int.reduceAdd, bI_0, bI_n, Classical.not_not, p3, true_and] at *)
  (try (have h2 := hI; clear hI; obtain ⟨⟨a1, a2, a3, a4, a5⟩, ⟨b1, b2, b3, b4, b5⟩, hJ⟩ := h2; subst a1 a2 a3 a4 a5 b1 b2 b3 b4 b5))
  (try (have h4 := hJ; obtain ⟨⟨d1, d2⟩, ⟨d3, d4⟩, hd⟩ := h4; clear hJ; subst d1 d2))
  (try simp only [Int.reduceEq, ↓reduceIte] at *)
  (try (have h3 := hJ; clear hJ; obtain ⟨hd, hg⟩ := h3))
  (try have g := hg.resolve_right (fun h => h.1 (by assumption)))
  (try have g := hg.resolve_left (fun h => absurd h.1 (by assumption)))
  (try (have c0 : k12 = 0 := c_1; subst c0))
  (try (have y := g.2.2.resolve_left (fun h => by omega); clear g hg; try clear o_22; try clear o_36; try clear o_57))
  (try (have y := g.2.2.resolve_right (fun h => by omega); clear g hg; try clear o_22; try clear o_36; try clear o_57))
  (try have ex := enx_b (t := s.2 4) p1)
  (try have q181 := q_18.1.1)
  (try have q311 := q_31.1.1)
  (try have q541 := q_54.1)
  (try have q661 := q_66.1.1)
  (try simp (disch := omega) only [i32_id] at *)
  (try unfold lex3)
  (try simp only [bI_0, bI_n, Classical.not_not] at *)
  (try simp (disch := omega) only [i32_id] at *)
  first | done | omega | ((repeat' (with_reducible apply And.intro)) <;> first | (show lnQ _ _ _ _ _ _ _ _ _ _ _ _ _ _ _ _; have hx : x1 = 0 := c_4; exact lnQ_n y.2.1 y.2.2 rfl q_18 (by rw [rep_h (i := 5) (by decide), rep_t (i := s.2 6 29) rfl]; rfl)) | (show lnQ _ _ _ _ _ _ _ _ _ _ _ _ _ _ _ _; have hx : ¬ x1 = 0 := c_4; exact lnQ_s1 y.2.1 y.2.2 q_31 (by assumption)) | (show lnQ _ _ _ _ _ _ _ _ _ _ _ _ _ _ _ _; have hx : ¬ x1 = 0 := c_4; exact lnQ_s2 y.2.1 y.2.2 q_31 (by assumption) q_54 (by assumption)) | (show lnQ _ _ _ _ _ _ _ _ _ _ _ _ _ _ _ _; have hx : ¬ x1 = 0 := c_4; exact lnQ_s3 y.2.1 y.2.2 q_31 (by assumption) q_54 (by assumption) q_66 (fun w v w2 v2 hx => by rw [rep_h (i := 4) (by decide), hx, rep_s (i := 4 * s.2 6 28 + 3) (by omega), rep_s (i := 4 * s.2 6 28 + 2) (by omega), rep_s (i := 4 * s.2 6 28 + 1) (by omega), rep_s (i := 4 * s.2 6 28) (by omega)]; rfl)) | (show lnQ _ _ _ _ _ _ _ _ _ _ _ _ _ _ _ _; exact lnQ_bad ⟨by omega, by omega⟩ hd g.2.2 g.2.1) | (exact lnG_a hd d3 (by assumption) (by assumption)) | (exact lnG_b hd d3 (by assumption) (by assumption)) | (exact lnG_c hd d4 (by assumption) (by assumption)) | (exact lnG_d hd d4 (by assumption) (by assumption) (by assumption)) | (exact lnG_e hd d3 d4 (by assumption) (by assumption)) | (exact lnG_x d3 d4 (by assumption) (by assumption)) | assumption | rfl | omega | (show lnQ _ _ _ _ _ _ _ _ _ _ _ _ _ _ _ _; exact lnQ_do q_16.1 (by omega) (by omega)) | (intro z hz; exact q_16.2.1 z (by omega)) | (exact q_16.2.2.1) | (intro z hz; rw [upI_n _ _ (by omega)]) | (intro z hz; rfl) | (intro z hz; rw [q_66.2.2.1 z (by omega) (by omega), q_31.2.2.1 z (by omega) (by omega)]) | (intro z hz; exact q_31.2.2.1 z (by omega) (by omega)) | grind [upI])
theorem vX3_line_54 (s : MS) (hp : 0 ≤ (s.1 7) ∧ (s.1 7) ≤ (s.1 6) ∧ (s.1 6) ≤ 800 ∧ (s.1 12) = 0 ∧ (0 ≤ (s.2 6) 24 ∧ (s.2 6) 24 ≤ 100) ∧ ((s.1 21) = 0 → (s.2 6) 27 = 0) ∧ (0 ≤ (s.2 6) 28 ∧ (s.2 6) 28 ≤ 6) ∧ (0 ≤ (s.2 6) 29 ∧ (s.2 6) 29 ≤ 20) ∧ (0 ≤ (s.2 6) 26 ∧ (s.2 6) 26 ≤ 200000)) (x1 : Int) (f6 : Int → Int) (f7 : Int → Int) (f8 : Int → Int) (f9 : Int → Int) (k7 : Int) (k8 : Int) (k9 : Int) (k10 : Int) (k11 : Int) (k12 : Int) (k13 : Int) (k21 : Int) (hI : (k7 = s.1 7 ∧ k8 = s.1 8 ∧ k9 = s.1 9 ∧ k10 = s.1 10 ∧ k11 = s.1 11) ∧ (f6 = s.2 6 ∧ f7 = s.2 7 ∧ f8 = s.2 8 ∧ f9 = s.2 9 ∧ k21 = s.1 21) ∧ lnG (s.1 8) (s.1 11) (s.2 6 28) (s.2 6 29) k12 k13 (s.1 13) (s.1 9) x1) (c_1 : k12 = 0) (o_2 : (0 ≤ k7 ∧ k7 ≤ (s.1 6) ∧ (s.1 6) ≤ 800)) (c_4 : x1 = 0) (o_5 : (0 ≤ (5 : Int) ∧ (5 : Int) < 6)) : (0 ≤ (2 : Int) ∧ (2 : Int) < 6) := by
  obtain ⟨p0, p1, p2, p3, p4, p5, p6, p7, p8⟩ := hp
  (try simp only [Int.add_zero, Int.reduceAdd, bI_0, bI_n, Classical.not_not, p3, true_and] at *)
  (try (have h2 := hI; clear hI; obtain ⟨⟨a1, a2, a3, a4, a5⟩, ⟨b1, b2, b3, b4, b5⟩, hJ⟩ := h2; subst a1 a2 a3 a4 a5 b1 b2 b3 b4 b5))
  (try (have h4 := hJ; obtain ⟨⟨d1, d2⟩, ⟨d3, d4⟩, hd⟩ := h4; clear hJ; subst d1 d2))
  (try simp only [Int.reduceEq, ↓reduceIte] at *)
  (try (have h3 := hJ; clear hJ; obtain ⟨hd, hg⟩ := h3))
  (try have g := hg.resolve_right (fun h => h.1 (by assumption)))
  (try have g := hg.resolve_left (fun h => absurd h.1 (by assumption)))
  (try (have c0 : k12 = 0 := c_1; subst c0))
  (try (have y := g.2.2.resolve_left (fun h => by omega); clear g hg; try clear o_22; try clear o_36; try clear o_57))
  (try (have y := g.2.2.resolve_right (fun h => by omega); clear g hg; try clear o_22; try clear o_36; try clear o_57))
  (try have ex := enx_b (t := s.2 4) p1)
  (try have q181 := q_18.1.1)
  (try have q311 := q_31.1.1)
  (try have q541 := q_54.1)
  (try have q661 := q_66.1.1)
  (try simp (disch := omega) only [i32_id] at *)
  (try unfold lex3)
  (try simp only [bI_0, bI_n, Classical.not_not] at *)
  (try simp (disch := omega) only [i32_id] at *)
  first | done | omega | ((repeat' (with_reducible apply And.intro)) <;> first | (show lnQ _ _ _ _ _ _ _ _ _ _ _ _ _ _ _ _; have hx : x1 = 0 := c_4; exact lnQ_n y.2.1 y.2.2 rfl q_18 (by rw [rep_h (i := 5) (by decide), rep_t (i := s.2 6 29) rfl]; rfl)) | (show lnQ _ _ _ _ _ _ _ _ _ _ _ _ _ _ _ _; have hx : ¬ x1 = 0 := c_4; exact lnQ_s1 y.2.1 y.2.2 q_31 (by assumption)) | (show lnQ _ _ _ _ _ _ _ _ _ _ _ _ _ _ _ _; have hx : ¬ x1 = 0 := c_4; exact lnQ_s2 y.2.1 y.2.2 q_31 (by assumption) q_54 (by assumption)) | (show lnQ _ _ _ _ _ _ _ _ _ _ _ _ _ _ _ _; have hx : ¬ x1 = 0 := c_4; exact lnQ_s3 y.2.1 y.2.2 q_31 (by assumption) q_54 (by assumption) q_66 (fun w v w2 v2 hx => by rw [rep_h (i := 4) (by decide), hx, rep_s (i := 4 * s.2 6 28 + 3) (by omega), rep_s (i := 4 * s.2 6 28 + 2) (by omega), rep_s (i := 4 * s.2 6 28 + 1) (by omega), rep_s (i := 4 * s.2 6 28) (by omega)]; rfl)) | (show lnQ _ _ _ _ _ _ _ _ _ _ _ _ _ _ _ _; exact lnQ_bad ⟨by omega, by omega⟩ hd g.2.2 g.2.1) | (exact lnG_a hd d3 (by assumption) (by assumption)) | (exact lnG_b hd d3 (by assumption) (by assumption)) | (exact lnG_c hd d4 (by assumption) (by assumption)) | (exact lnG_d hd d4 (by assumption) (by assumption) (by assumption)) | (exact lnG_e hd d3 d4 (by assumption) (by assumption)) | (exact lnG_x d3 d4 (by assumption) (by assumption)) | assumption | rfl | omega | (show lnQ _ _ _ _ _ _ _ _ _ _ _ _ _ _ _ _; exact lnQ_do q_16.1 (by omega) (by omega)) | (intro z hz; exact q_16.2.1 z (by omega)) | (exact q_16.2.2.1) | (intro z hz; rw [upI_n _ _ (by omega)]) | (intro z hz; rfl) | (intro z hz; rw [q_66.2.2.1 z (by omega) (by omega), q_31.2.2.1 z (by omega) (by omega)]) | (intro z hz; exact q_31.2.2.1 z (by omega) (by omega)) | grind [upI])
theorem vX3_line_55 (s : MS) (hp : 0 ≤ (s.1 7) ∧ (s.1 7) ≤ (s.1 6) ∧ (s.1 6) ≤ 800 ∧ (s.1 12) = 0 ∧ (0 ≤ (s.2 6) 24 ∧ (s.2 6) 24 ≤ 100) ∧ ((s.1 21) = 0 → (s.2 6) 27 = 0) ∧ (0 ≤ (s.2 6) 28 ∧ (s.2 6) 28 ≤ 6) ∧ (0 ≤ (s.2 6) 29 ∧ (s.2 6) 29 ≤ 20) ∧ (0 ≤ (s.2 6) 26 ∧ (s.2 6) 26 ≤ 200000)) (x1 : Int) (f6 : Int → Int) (f7 : Int → Int) (f8 : Int → Int) (f9 : Int → Int) (k7 : Int) (k8 : Int) (k9 : Int) (k10 : Int) (k11 : Int) (k12 : Int) (k13 : Int) (k21 : Int) (hI : (k7 = s.1 7 ∧ k8 = s.1 8 ∧ k9 = s.1 9 ∧ k10 = s.1 10 ∧ k11 = s.1 11) ∧ (f6 = s.2 6 ∧ f7 = s.2 7 ∧ f8 = s.2 8 ∧ f9 = s.2 9 ∧ k21 = s.1 21) ∧ lnG (s.1 8) (s.1 11) (s.2 6 28) (s.2 6 29) k12 k13 (s.1 13) (s.1 9) x1) (c_1 : k12 = 0) (o_2 : (0 ≤ k7 ∧ k7 ≤ (s.1 6) ∧ (s.1 6) ≤ 800)) (c_4 : x1 = 0) (o_5 : (0 ≤ (5 : Int) ∧ (5 : Int) < 6)) (o_7 : (0 ≤ (2 : Int) ∧ (2 : Int) < 6)) : (0 ≤ (enx (s.2 4) (s.1 6) k7) ∧ (enx (s.2 4) (s.1 6) k7) ≤ (s.1 6) ∧ (s.1 6) ≤ 800) := by
  obtain ⟨p0, p1, p2, p3, p4, p5, p6, p7, p8⟩ := hp
  (try simp only [Int.add_zero, Int.reduceAdd, bI_0, bI_n, Classical.not_not, p3, true_and] at *)
  (try (have h2 := hI; clear hI; obtain ⟨⟨a1, a2, a3, a4, a5⟩, ⟨b1, b2, b3, b4, b5⟩, hJ⟩ := h2; subst a1 a2 a3 a4 a5 b1 b2 b3 b4 b5))
  (try (have h4 := hJ; obtain ⟨⟨d1, d2⟩, ⟨d3, d4⟩, hd⟩ := h4; clear hJ; subst d1 d2))
  (try simp only [Int.reduceEq, ↓reduceIte] at *)
  (try (have h3 := hJ; clear hJ; obtain ⟨hd, hg⟩ := h3))
  (try have g := hg.resolve_right (fun h => h.1 (by assumption)))
  (try have g := hg.resolve_left (fun h => absurd h.1 (by assumption)))
  (try (have c0 : k12 = 0 := c_1; subst c0))
  (try (have y := g.2.2.resolve_left (fun h => by omega); clear g hg; try clear o_22; try clear o_36; try clear o_57))
  (try (have y := g.2.2.resolve_right (fun h => by omega); clear g hg; try clear o_22; try clear o_36; try clear o_57))
  (try have ex := enx_b (t := s.2 4) p1)
  (try have q181 := q_18.1.1)
  (try have q311 := q_31.1.1)
  (try have q541 := q_54.1)
  (try have q661 := q_66.1.1)
  (try simp (disch := omega) only [i32_id] at *)
  (try unfold lex3)
  (try simp only [bI_0, bI_n, Classical.not_not] at *)
  (try simp (disch := omega) only [i32_id] at *)
  first | done | omega | ((repeat' (with_reducible apply And.intro)) <;> first | (show lnQ _ _ _ _ _ _ _ _ _ _ _ _ _ _ _ _; have hx : x1 = 0 := c_4; exact lnQ_n y.2.1 y.2.2 rfl q_18 (by rw [rep_h (i := 5) (by decide), rep_t (i := s.2 6 29) rfl]; rfl)) | (show lnQ _ _ _ _ _ _ _ _ _ _ _ _ _ _ _ _; have hx : ¬ x1 = 0 := c_4; exact lnQ_s1 y.2.1 y.2.2 q_31 (by assumption)) | (show lnQ _ _ _ _ _ _ _ _ _ _ _ _ _ _ _ _; have hx : ¬ x1 = 0 := c_4; exact lnQ_s2 y.2.1 y.2.2 q_31 (by assumption) q_54 (by assumption)) | (show lnQ _ _ _ _ _ _ _ _ _ _ _ _ _ _ _ _; have hx : ¬ x1 = 0 := c_4; exact lnQ_s3 y.2.1 y.2.2 q_31 (by assumption) q_54 (by assumption) q_66 (fun w v w2 v2 hx => by rw [rep_h (i := 4) (by decide), hx, rep_s (i := 4 * s.2 6 28 + 3) (by omega), rep_s (i := 4 * s.2 6 28 + 2) (by omega), rep_s (i := 4 * s.2 6 28 + 1) (by omega), rep_s (i := 4 * s.2 6 28) (by omega)]; rfl)) | (show lnQ _ _ _ _ _ _ _ _ _ _ _ _ _ _ _ _; exact lnQ_bad ⟨by omega, by omega⟩ hd g.2.2 g.2.1) | (exact lnG_a hd d3 (by assumption) (by assumption)) | (exact lnG_b hd d3 (by assumption) (by assumption)) | (exact lnG_c hd d4 (by assumption) (by assumption)) | (exact lnG_d hd d4 (by assumption) (by assumption) (by assumption)) | (exact lnG_e hd d3 d4 (by assumption) (by assumption)) | (exact lnG_x d3 d4 (by assumption) (by assumption)) | assumption | rfl | omega | (show lnQ _ _ _ _ _ _ _ _ _ _ _ _ _ _ _ _; exact lnQ_do q_16.1 (by omega) (by omega)) | (intro z hz; exact q_16.2.1 z (by omega)) | (exact q_16.2.2.1) | (intro z hz; rw [upI_n _ _ (by omega)]) | (intro z hz; rfl) | (intro z hz; rw [q_66.2.2.1 z (by omega) (by omega), q_31.2.2.1 z (by omega) (by omega)]) | (intro z hz; exact q_31.2.2.1 z (by omega) (by omega)) | grind [upI])
theorem vX3_line_56 (s : MS) (hp : 0 ≤ (s.1 7) ∧ (s.1 7) ≤ (s.1 6) ∧ (s.1 6) ≤ 800 ∧ (s.1 12) = 0 ∧ (0 ≤ (s.2 6) 24 ∧ (s.2 6) 24 ≤ 100) ∧ ((s.1 21) = 0 → (s.2 6) 27 = 0) ∧ (0 ≤ (s.2 6) 28 ∧ (s.2 6) 28 ≤ 6) ∧ (0 ≤ (s.2 6) 29 ∧ (s.2 6) 29 ≤ 20) ∧ (0 ≤ (s.2 6) 26 ∧ (s.2 6) 26 ≤ 200000)) (x1 : Int) (f6 : Int → Int) (f7 : Int → Int) (f8 : Int → Int) (f9 : Int → Int) (k7 : Int) (k8 : Int) (k9 : Int) (k10 : Int) (k11 : Int) (k12 : Int) (k13 : Int) (k21 : Int) (hI : (k7 = s.1 7 ∧ k8 = s.1 8 ∧ k9 = s.1 9 ∧ k10 = s.1 10 ∧ k11 = s.1 11) ∧ (f6 = s.2 6 ∧ f7 = s.2 7 ∧ f8 = s.2 8 ∧ f9 = s.2 9 ∧ k21 = s.1 21) ∧ lnG (s.1 8) (s.1 11) (s.2 6 28) (s.2 6 29) k12 k13 (s.1 13) (s.1 9) x1) (c_1 : k12 = 0) (o_2 : (0 ≤ k7 ∧ k7 ≤ (s.1 6) ∧ (s.1 6) ≤ 800)) (c_4 : x1 = 0) (o_5 : (0 ≤ (5 : Int) ∧ (5 : Int) < 6)) (o_7 : (0 ≤ (2 : Int) ∧ (2 : Int) < 6)) (o_9 : (0 ≤ (enx (s.2 4) (s.1 6) k7) ∧ (enx (s.2 4) (s.1 6) k7) ≤ (s.1 6) ∧ (s.1 6) ≤ 800)) (k_10 : Int) (k_11 : Int) (k_12 : Int) (k_13 : Int) (k_14 : Int) (k_15 : Int) (k_16 : Int) (r_17 : Int) (q_18 : (numQ (s.2 4) (s.1 6) (0 : Int) (i32 ((f6 (24 + (2 : Int))) - 1)) (enx (s.2 4) (s.1 6) k7) (knd (s.2 4) (s.1 6) k7) (plc (s.2 4) (s.1 6) k7) (vlu (s.2 4) (s.1 6) k7) (wrd (s.2 4) (s.1 6) k7) k12 k13 k_10 k_11 k_12 k_13 k_14 k_15 k_16 r_17)) : (0 ≤ (i32 (80 + (f6 (24 + (5 : Int))))) ∧ (i32 (80 + (f6 (24 + (5 : Int))))) < 100) := by
  obtain ⟨p0, p1, p2, p3, p4, p5, p6, p7, p8⟩ := hp
  (try simp only [Int.add_zero, Int.reduceAdd, bI_0, bI_n, Classical.not_not, p3, true_and] at *)
  (try (have h2 := hI; clear hI; obtain ⟨⟨a1, a2, a3, a4, a5⟩, ⟨b1, b2, b3, b4, b5⟩, hJ⟩ := h2; subst a1 a2 a3 a4 a5 b1 b2 b3 b4 b5))
  (try (have h4 := hJ; obtain ⟨⟨d1, d2⟩, ⟨d3, d4⟩, hd⟩ := h4; clear hJ; subst d1 d2))
  (try simp only [Int.reduceEq, ↓reduceIte] at *)
  (try (have h3 := hJ; clear hJ; obtain ⟨hd, hg⟩ := h3))
  (try have g := hg.resolve_right (fun h => h.1 (by assumption)))
  (try have g := hg.resolve_left (fun h => absurd h.1 (by assumption)))
  (try (have c0 : k12 = 0 := c_1; subst c0))
  (try (have y := g.2.2.resolve_left (fun h => by omega); clear g hg; try clear o_22; try clear o_36; try clear o_57))
  (try (have y := g.2.2.resolve_right (fun h => by omega); clear g hg; try clear o_22; try clear o_36; try clear o_57))
  (try have ex := enx_b (t := s.2 4) p1)
  (try have q181 := q_18.1.1)
  (try have q311 := q_31.1.1)
  (try have q541 := q_54.1)
  (try have q661 := q_66.1.1)
  (try simp (disch := omega) only [i32_id] at *)
  (try unfold lex3)
  (try simp only [bI_0, bI_n, Classical.not_not] at *)
  (try simp (disch := omega) only [i32_id] at *)
  first | done | omega | ((repeat' (with_reducible apply And.intro)) <;> first | (show lnQ _ _ _ _ _ _ _ _ _ _ _ _ _ _ _ _; have hx : x1 = 0 := c_4; exact lnQ_n y.2.1 y.2.2 rfl q_18 (by rw [rep_h (i := 5) (by decide), rep_t (i := s.2 6 29) rfl]; rfl)) | (show lnQ _ _ _ _ _ _ _ _ _ _ _ _ _ _ _ _; have hx : ¬ x1 = 0 := c_4; exact lnQ_s1 y.2.1 y.2.2 q_31 (by assumption)) | (show lnQ _ _ _ _ _ _ _ _ _ _ _ _ _ _ _ _; have hx : ¬ x1 = 0 := c_4; exact lnQ_s2 y.2.1 y.2.2 q_31 (by assumption) q_54 (by assumption)) | (show lnQ _ _ _ _ _ _ _ _ _ _ _ _ _ _ _ _; have hx : ¬ x1 = 0 := c_4; exact lnQ_s3 y.2.1 y.2.2 q_31 (by assumption) q_54 (by assumption) q_66 (fun w v w2 v2 hx => by rw [rep_h (i := 4) (by decide), hx, rep_s (i := 4 * s.2 6 28 + 3) (by omega), rep_s (i := 4 * s.2 6 28 + 2) (by omega), rep_s (i := 4 * s.2 6 28 + 1) (by omega), rep_s (i := 4 * s.2 6 28) (by omega)]; rfl)) | (show lnQ _ _ _ _ _ _ _ _ _ _ _ _ _ _ _ _; exact lnQ_bad ⟨by omega, by omega⟩ hd g.2.2 g.2.1) | (exact lnG_a hd d3 (by assumption) (by assumption)) | (exact lnG_b hd d3 (by assumption) (by assumption)) | (exact lnG_c hd d4 (by assumption) (by assumption)) | (exact lnG_d hd d4 (by assumption) (by assumption) (by assumption)) | (exact lnG_e hd d3 d4 (by assumption) (by assumption)) | (exact lnG_x d3 d4 (by assumption) (by assumption)) | assumption | rfl | omega | (show lnQ _ _ _ _ _ _ _ _ _ _ _ _ _ _ _ _; exact lnQ_do q_16.1 (by omega) (by omega)) | (intro z hz; exact q_16.2.1 z (by omega)) | (exact q_16.2.2.1) | (intro z hz; rw [upI_n _ _ (by omega)]) | (intro z hz; rfl) | (intro z hz; rw [q_66.2.2.1 z (by omega) (by omega), q_31.2.2.1 z (by omega) (by omega)]) | (intro z hz; exact q_31.2.2.1 z (by omega) (by omega)) | grind [upI])
theorem vX3_line_57 (s : MS) (hp : 0 ≤ (s.1 7) ∧ (s.1 7) ≤ (s.1 6) ∧ (s.1 6) ≤ 800 ∧ (s.1 12) = 0 ∧ (0 ≤ (s.2 6) 24 ∧ (s.2 6) 24 ≤ 100) ∧ ((s.1 21) = 0 → (s.2 6) 27 = 0) ∧ (0 ≤ (s.2 6) 28 ∧ (s.2 6) 28 ≤ 6) ∧ (0 ≤ (s.2 6) 29 ∧ (s.2 6) 29 ≤ 20) ∧ (0 ≤ (s.2 6) 26 ∧ (s.2 6) 26 ≤ 200000)) (x1 : Int) (f6 : Int → Int) (f7 : Int → Int) (f8 : Int → Int) (f9 : Int → Int) (k7 : Int) (k8 : Int) (k9 : Int) (k10 : Int) (k11 : Int) (k12 : Int) (k13 : Int) (k21 : Int) (hI : (k7 = s.1 7 ∧ k8 = s.1 8 ∧ k9 = s.1 9 ∧ k10 = s.1 10 ∧ k11 = s.1 11) ∧ (f6 = s.2 6 ∧ f7 = s.2 7 ∧ f8 = s.2 8 ∧ f9 = s.2 9 ∧ k21 = s.1 21) ∧ lnG (s.1 8) (s.1 11) (s.2 6 28) (s.2 6 29) k12 k13 (s.1 13) (s.1 9) x1) (c_1 : k12 = 0) (o_2 : (0 ≤ k7 ∧ k7 ≤ (s.1 6) ∧ (s.1 6) ≤ 800)) (c_4 : x1 = 0) (o_5 : (0 ≤ (5 : Int) ∧ (5 : Int) < 6)) (o_7 : (0 ≤ (2 : Int) ∧ (2 : Int) < 6)) (o_9 : (0 ≤ (enx (s.2 4) (s.1 6) k7) ∧ (enx (s.2 4) (s.1 6) k7) ≤ (s.1 6) ∧ (s.1 6) ≤ 800)) (k_10 : Int) (k_11 : Int) (k_12 : Int) (k_13 : Int) (k_14 : Int) (k_15 : Int) (k_16 : Int) (r_17 : Int) (q_18 : (numQ (s.2 4) (s.1 6) (0 : Int) (i32 ((f6 (24 + (2 : Int))) - 1)) (enx (s.2 4) (s.1 6) k7) (knd (s.2 4) (s.1 6) k7) (plc (s.2 4) (s.1 6) k7) (vlu (s.2 4) (s.1 6) k7) (wrd (s.2 4) (s.1 6) k7) k12 k13 k_10 k_11 k_12 k_13 k_14 k_15 k_16 r_17)) (o_19 : (0 ≤ (i32 (80 + (f6 (24 + (5 : Int))))) ∧ (i32 (80 + (f6 (24 + (5 : Int))))) < 100)) : lnQ (s.2 4) (s.1 6) (lineP (s.2 4) (s.1 6) (rep (s.2 6) (s.2 7) (s.2 8) (s.2 9) (s.1 21))) (s.1 7) (s.1 8) (s.1 9) (s.1 10) (s.1 11) k_10 k_11 k_12 k_13 k_14 k_15 k_16 (rep (upI f6 29 (i32 ((f6 29) + 1))) f7 f8 (upI f9 (i32 (80 + (f6 (24 + (5 : Int))))) r_17) k21) ∧ (∀ z, z < 24 → (upI f6 29 (i32 ((f6 29) + 1))) z = (s.2 6) z) ∧ (∀ z, z < 96 → f7 z = (s.2 7) z) ∧ (∀ z, z < 96 → f8 z = (s.2 8) z) ∧ (∀ z, z < 80 → (upI f9 (i32 (80 + (f6 (24 + (5 : Int))))) r_17) z = (s.2 9) z) := by
  obtain ⟨p0, p1, p2, p3, p4, p5, p6, p7, p8⟩ := hp
  (try simp only [Int.add_zero, Int.reduceAdd, bI_0, bI_n, Classical.not_not, p3, true_and] at *)
  (try (have h2 := hI; clear hI; obtain ⟨⟨a1, a2, a3, a4, a5⟩, ⟨b1, b2, b3, b4, b5⟩, hJ⟩ := h2; subst a1 a2 a3 a4 a5 b1 b2 b3 b4 b5))
  (try (have h4 := hJ; obtain ⟨⟨d1, d2⟩, ⟨d3, d4⟩, hd⟩ := h4; clear hJ; subst d1 d2))
  (try simp only [Int.reduceEq, ↓reduceIte] at *)
  (try (have h3 := hJ; clear hJ; obtain ⟨hd, hg⟩ := h3))
  (try have g := hg.resolve_right (fun h => h.1 (by assumption)))
  (try have g := hg.resolve_left (fun h => absurd h.1 (by assumption)))
  (try (have c0 : k12 = 0 := c_1; subst c0))
  (try (have y := g.2.2.resolve_left (fun h => by omega); clear g hg; try clear o_22; try clear o_36; try clear o_57))
  (try (have y := g.2.2.resolve_right (fun h => by omega); clear g hg; try clear o_22; try clear o_36; try clear o_57))
  (try have ex := enx_b (t := s.2 4) p1)
  (try have q181 := q_18.1.1)
  (try have q311 := q_31.1.1)
  (try have q541 := q_54.1)
  (try have q661 := q_66.1.1)
  (try simp (disch := omega) only [i32_id] at *)
  (try unfold lex3)
  (try simp only [bI_0, bI_n, Classical.not_not] at *)
  (try simp (disch := omega) only [i32_id] at *)
  first | done | omega | ((repeat' (with_reducible apply And.intro)) <;> first | (show lnQ _ _ _ _ _ _ _ _ _ _ _ _ _ _ _ _; have hx : x1 = 0 := c_4; exact lnQ_n y.2.1 y.2.2 rfl q_18 (by rw [rep_h (i := 5) (by decide), rep_t (i := s.2 6 29) rfl]; rfl)) | (show lnQ _ _ _ _ _ _ _ _ _ _ _ _ _ _ _ _; have hx : ¬ x1 = 0 := c_4; exact lnQ_s1 y.2.1 y.2.2 q_31 (by assumption)) | (show lnQ _ _ _ _ _ _ _ _ _ _ _ _ _ _ _ _; have hx : ¬ x1 = 0 := c_4; exact lnQ_s2 y.2.1 y.2.2 q_31 (by assumption) q_54 (by assumption)) | (show lnQ _ _ _ _ _ _ _ _ _ _ _ _ _ _ _ _; have hx : ¬ x1 = 0 := c_4; exact lnQ_s3 y.2.1 y.2.2 q_31 (by assumption) q_54 (by assumption) q_66 (fun w v w2 v2 hx => by rw [rep_h (i := 4) (by decide), hx, rep_s (i := 4 * s.2 6 28 + 3) (by omega), rep_s (i := 4 * s.2 6 28 + 2) (by omega), rep_s (i := 4 * s.2 6 28 + 1) (by omega), rep_s (i := 4 * s.2 6 28) (by omega)]; rfl)) | (show lnQ _ _ _ _ _ _ _ _ _ _ _ _ _ _ _ _; exact lnQ_bad ⟨by omega, by omega⟩ hd g.2.2 g.2.1) | (exact lnG_a hd d3 (by assumption) (by assumption)) | (exact lnG_b hd d3 (by assumption) (by assumption)) | (exact lnG_c hd d4 (by assumption) (by assumption)) | (exact lnG_d hd d4 (by assumption) (by assumption) (by assumption)) | (exact lnG_e hd d3 d4 (by assumption) (by assumption)) | (exact lnG_x d3 d4 (by assumption) (by assumption)) | assumption | rfl | omega | (show lnQ _ _ _ _ _ _ _ _ _ _ _ _ _ _ _ _; exact lnQ_do q_16.1 (by omega) (by omega)) | (intro z hz; exact q_16.2.1 z (by omega)) | (exact q_16.2.2.1) | (intro z hz; rw [upI_n _ _ (by omega)]) | (intro z hz; rfl) | (intro z hz; rw [q_66.2.2.1 z (by omega) (by omega), q_31.2.2.1 z (by omega) (by omega)]) | (intro z hz; exact q_31.2.2.1 z (by omega) (by omega)) | grind [upI])
theorem vX3_line_58 (s : MS) (hp : 0 ≤ (s.1 7) ∧ (s.1 7) ≤ (s.1 6) ∧ (s.1 6) ≤ 800 ∧ (s.1 12) = 0 ∧ (0 ≤ (s.2 6) 24 ∧ (s.2 6) 24 ≤ 100) ∧ ((s.1 21) = 0 → (s.2 6) 27 = 0) ∧ (0 ≤ (s.2 6) 28 ∧ (s.2 6) 28 ≤ 6) ∧ (0 ≤ (s.2 6) 29 ∧ (s.2 6) 29 ≤ 20) ∧ (0 ≤ (s.2 6) 26 ∧ (s.2 6) 26 ≤ 200000)) (x1 : Int) (f6 : Int → Int) (f7 : Int → Int) (f8 : Int → Int) (f9 : Int → Int) (k7 : Int) (k8 : Int) (k9 : Int) (k10 : Int) (k11 : Int) (k12 : Int) (k13 : Int) (k21 : Int) (hI : (k7 = s.1 7 ∧ k8 = s.1 8 ∧ k9 = s.1 9 ∧ k10 = s.1 10 ∧ k11 = s.1 11) ∧ (f6 = s.2 6 ∧ f7 = s.2 7 ∧ f8 = s.2 8 ∧ f9 = s.2 9 ∧ k21 = s.1 21) ∧ lnG (s.1 8) (s.1 11) (s.2 6 28) (s.2 6 29) k12 k13 (s.1 13) (s.1 9) x1) (c_1 : k12 = 0) (o_2 : (0 ≤ k7 ∧ k7 ≤ (s.1 6) ∧ (s.1 6) ≤ 800)) (c_4 : ¬ x1 = 0) : (0 ≤ (4 : Int) ∧ (4 : Int) < 6) := by
  obtain ⟨p0, p1, p2, p3, p4, p5, p6, p7, p8⟩ := hp
  (try simp only [Int.add_zero, Int.reduceAdd, bI_0, bI_n, Classical.not_not, p3, true_and] at *)
  (try (have h2 := hI; clear hI; obtain ⟨⟨a1, a2, a3, a4, a5⟩, ⟨b1, b2, b3, b4, b5⟩, hJ⟩ := h2; subst a1 a2 a3 a4 a5 b1 b2 b3 b4 b5))
  (try (have h4 := hJ; obtain ⟨⟨d1, d2⟩, ⟨d3, d4⟩, hd⟩ := h4; clear hJ; subst d1 d2))
  (try simp only [Int.reduceEq, ↓reduceIte] at *)
  (try (have h3 := hJ; clear hJ; obtain ⟨hd, hg⟩ := h3))
  (try have g := hg.resolve_right (fun h => h.1 (by assumption)))
  (try have g := hg.resolve_left (fun h => absurd h.1 (by assumption)))
  (try (have c0 : k12 = 0 := c_1; subst c0))
  (try (have y := g.2.2.resolve_left (fun h => by omega); clear g hg; try clear o_22; try clear o_36; try clear o_57))
  (try (have y := g.2.2.resolve_right (fun h => by omega); clear g hg; try clear o_22; try clear o_36; try clear o_57))
  (try have ex := enx_b (t := s.2 4) p1)
  (try have q181 := q_18.1.1)
  (try have q311 := q_31.1.1)
  (try have q541 := q_54.1)
  (try have q661 := q_66.1.1)
  (try simp (disch := omega) only [i32_id] at *)
  (try unfold lex3)
  (try simp only [bI_0, bI_n, Classical.not_not] at *)
  (try simp (disch := omega) only [i32_id] at *)
  first | done | omega | ((repeat' (with_reducible apply And.intro)) <;> first | (show lnQ _ _ _ _ _ _ _ _ _ _ _ _ _ _ _ _; have hx : x1 = 0 := c_4; exact lnQ_n y.2.1 y.2.2 rfl q_18 (by rw [rep_h (i := 5) (by decide), rep_t (i := s.2 6 29) rfl]; rfl)) | (show lnQ _ _ _ _ _ _ _ _ _ _ _ _ _ _ _ _; have hx : ¬ x1 = 0 := c_4; exact lnQ_s1 y.2.1 y.2.2 q_31 (by assumption)) | (show lnQ _ _ _ _ _ _ _ _ _ _ _ _ _ _ _ _; have hx : ¬ x1 = 0 := c_4; exact lnQ_s2 y.2.1 y.2.2 q_31 (by assumption) q_54 (by assumption)) | (show lnQ _ _ _ _ _ _ _ _ _ _ _ _ _ _ _ _; have hx : ¬ x1 = 0 := c_4; exact lnQ_s3 y.2.1 y.2.2 q_31 (by assumption) q_54 (by assumption) q_66 (fun w v w2 v2 hx => by rw [rep_h (i := 4) (by decide), hx, rep_s (i := 4 * s.2 6 28 + 3) (by omega), rep_s (i := 4 * s.2 6 28 + 2) (by omega), rep_s (i := 4 * s.2 6 28 + 1) (by omega), rep_s (i := 4 * s.2 6 28) (by omega)]; rfl)) | (show lnQ _ _ _ _ _ _ _ _ _ _ _ _ _ _ _ _; exact lnQ_bad ⟨by omega, by omega⟩ hd g.2.2 g.2.1) | (exact lnG_a hd d3 (by assumption) (by assumption)) | (exact lnG_b hd d3 (by assumption) (by assumption)) | (exact lnG_c hd d4 (by assumption) (by assumption)) | (exact lnG_d hd d4 (by assumption) (by assumption) (by assumption)) | (exact lnG_e hd d3 d4 (by assumption) (by assumption)) | (exact lnG_x d3 d4 (by assumption) (by assumption)) | assumption | rfl | omega | (show lnQ _ _ _ _ _ _ _ _ _ _ _ _ _ _ _ _; exact lnQ_do q_16.1 (by omega) (by omega)) | (intro z hz; exact q_16.2.1 z (by omega)) | (exact q_16.2.2.1) | (intro z hz; rw [upI_n _ _ (by omega)]) | (intro z hz; rfl) | (intro z hz; rw [q_66.2.2.1 z (by omega) (by omega), q_31.2.2.1 z (by omega) (by omega)]) | (intro z hz; exact q_31.2.2.1 z (by omega) (by omega)) | grind [upI])
theorem vX3_line_59 (s : MS) (hp : 0 ≤ (s.1 7) ∧ (s.1 7) ≤ (s.1 6) ∧ (s.1 6) ≤ 800 ∧ (s.1 12) = 0 ∧ (0 ≤ (s.2 6) 24 ∧ (s.2 6) 24 ≤ 100) ∧ ((s.1 21) = 0 → (s.2 6) 27 = 0) ∧ (0 ≤ (s.2 6) 28 ∧ (s.2 6) 28 ≤ 6) ∧ (0 ≤ (s.2 6) 29 ∧ (s.2 6) 29 ≤ 20) ∧ (0 ≤ (s.2 6) 26 ∧ (s.2 6) 26 ≤ 200000)) (x1 : Int) (f6 : Int → Int) (f7 : Int → Int) (f8 : Int → Int) (f9 : Int → Int) (k7 : Int) (k8 : Int) (k9 : Int) (k10 : Int) (k11 : Int) (k12 : Int) (k13 : Int) (k21 : Int) (hI : (k7 = s.1 7 ∧ k8 = s.1 8 ∧ k9 = s.1 9 ∧ k10 = s.1 10 ∧ k11 = s.1 11) ∧ (f6 = s.2 6 ∧ f7 = s.2 7 ∧ f8 = s.2 8 ∧ f9 = s.2 9 ∧ k21 = s.1 21) ∧ lnG (s.1 8) (s.1 11) (s.2 6 28) (s.2 6 29) k12 k13 (s.1 13) (s.1 9) x1) (c_1 : k12 = 0) (o_2 : (0 ≤ k7 ∧ k7 ≤ (s.1 6) ∧ (s.1 6) ≤ 800)) (c_4 : ¬ x1 = 0) (o_20 : (0 ≤ (4 : Int) ∧ (4 : Int) < 6)) : (0 ≤ (enx (s.2 4) (s.1 6) k7) ∧ (enx (s.2 4) (s.1 6) k7) ≤ (s.1 6) ∧ (s.1 6) ≤ 800 ∧ ((if k12 = 0 ∧ (knd (s.2 4) (s.1 6) k7) = 1 then sortOf (wrd (s.2 4) (s.1 6) k7) else -1) = -1 ∨ (0 ≤ (i32 (4 * (i32 (24 + (f6 (24 + (4 : Int))))))) ∧ (i32 (4 * (i32 (24 + (f6 (24 + (4 : Int))))))) + 1 < 120)) ∧ (0 ≤ f6 24 ∧ f6 24 ≤ 100)) := by
  obtain ⟨p0, p1, p2, p3, p4, p5, p6, p7, p8⟩ := hp
  (try simp only [Int.add_zero, Int.reduceAdd, bI_0, bI_n, Classical.not_not, p3, true_and] at *)
  (try (have h2 := hI; clear hI; obtain ⟨⟨a1, a2, a3, a4, a5⟩, ⟨b1, b2, b3, b4, b5⟩, hJ⟩ := h2; subst a1 a2 a3 a4 a5 b1 b2 b3 b4 b5))
  (try (have h4 := hJ; obtain ⟨⟨d1, d2⟩, ⟨d3, d4⟩, hd⟩ := h4; clear hJ; subst d1 d2))
  (try simp only [Int.reduceEq, ↓reduceIte] at *)
  (try (have h3 := hJ; clear hJ; obtain ⟨hd, hg⟩ := h3))
  (try have g := hg.resolve_right (fun h => h.1 (by assumption)))
  (try have g := hg.resolve_left (fun h => absurd h.1 (by assumption)))
  (try (have c0 : k12 = 0 := c_1; subst c0))
  (try (have y := g.2.2.resolve_left (fun h => by omega); clear g hg; try clear o_22; try clear o_36; try clear o_57))
  (try (have y := g.2.2.resolve_right (fun h => by omega); clear g hg; try clear o_22; try clear o_36; try clear o_57))
  (try have ex := enx_b (t := s.2 4) p1)
  (try have q181 := q_18.1.1)
  (try have q311 := q_31.1.1)
  (try have q541 := q_54.1)
  (try have q661 := q_66.1.1)
  (try simp (disch := omega) only [i32_id] at *)
  (try unfold lex3)
  (try simp only [bI_0, bI_n, Classical.not_not] at *)
  (try simp (disch := omega) only [i32_id] at *)
  first | done | omega | ((repeat' (with_reducible apply And.intro)) <;> first | (show lnQ _ _ _ _ _ _ _ _ _ _ _ _ _ _ _ _; have hx : x1 = 0 := c_4; exact lnQ_n y.2.1 y.2.2 rfl q_18 (by rw [rep_h (i := 5) (by decide), rep_t (i := s.2 6 29) rfl]; rfl)) | (show lnQ _ _ _ _ _ _ _ _ _ _ _ _ _ _ _ _; have hx : ¬ x1 = 0 := c_4; exact lnQ_s1 y.2.1 y.2.2 q_31 (by assumption)) | (show lnQ _ _ _ _ _ _ _ _ _ _ _ _ _ _ _ _; have hx : ¬ x1 = 0 := c_4; exact lnQ_s2 y.2.1 y.2.2 q_31 (by assumption) q_54 (by assumption)) | (show lnQ _ _ _ _ _ _ _ _ _ _ _ _ _ _ _ _; have hx : ¬ x1 = 0 := c_4; exact lnQ_s3 y.2.1 y.2.2 q_31 (by assumption) q_54 (by assumption) q_66 (fun w v w2 v2 hx => by rw [rep_h (i := 4) (by decide), hx, rep_s (i := 4 * s.2 6 28 + 3) (by omega), rep_s (i := 4 * s.2 6 28 + 2) (by omega), rep_s (i := 4 * s.2 6 28 + 1) (by omega), rep_s (i := 4 * s.2 6 28) (by omega)]; rfl)) | (show lnQ _ _ _ _ _ _ _ _ _ _ _ _ _ _ _ _; exact lnQ_bad ⟨by omega, by omega⟩ hd g.2.2 g.2.1) | (exact lnG_a hd d3 (by assumption) (by assumption)) | (exact lnG_b hd d3 (by assumption) (by assumption)) | (exact lnG_c hd d4 (by assumption) (by assumption)) | (exact lnG_d hd d4 (by assumption) (by assumption) (by assumption)) | (exact lnG_e hd d3 d4 (by assumption) (by assumption)) | (exact lnG_x d3 d4 (by assumption) (by assumption)) | assumption | rfl | omega | (show lnQ _ _ _ _ _ _ _ _ _ _ _ _ _ _ _ _; exact lnQ_do q_16.1 (by omega) (by omega)) | (intro z hz; exact q_16.2.1 z (by omega)) | (exact q_16.2.2.1) | (intro z hz; rw [upI_n _ _ (by omega)]) | (intro z hz; rfl) | (intro z hz; rw [q_66.2.2.1 z (by omega) (by omega), q_31.2.2.1 z (by omega) (by omega)]) | (intro z hz; exact q_31.2.2.1 z (by omega) (by omega)) | grind [upI])
theorem vX3_line_60 (s : MS) (hp : 0 ≤ (s.1 7) ∧ (s.1 7) ≤ (s.1 6) ∧ (s.1 6) ≤ 800 ∧ (s.1 12) = 0 ∧ (0 ≤ (s.2 6) 24 ∧ (s.2 6) 24 ≤ 100) ∧ ((s.1 21) = 0 → (s.2 6) 27 = 0) ∧ (0 ≤ (s.2 6) 28 ∧ (s.2 6) 28 ≤ 6) ∧ (0 ≤ (s.2 6) 29 ∧ (s.2 6) 29 ≤ 20) ∧ (0 ≤ (s.2 6) 26 ∧ (s.2 6) 26 ≤ 200000)) (x1 : Int) (f6 : Int → Int) (f7 : Int → Int) (f8 : Int → Int) (f9 : Int → Int) (k7 : Int) (k8 : Int) (k9 : Int) (k10 : Int) (k11 : Int) (k12 : Int) (k13 : Int) (k21 : Int) (hI : (k7 = s.1 7 ∧ k8 = s.1 8 ∧ k9 = s.1 9 ∧ k10 = s.1 10 ∧ k11 = s.1 11) ∧ (f6 = s.2 6 ∧ f7 = s.2 7 ∧ f8 = s.2 8 ∧ f9 = s.2 9 ∧ k21 = s.1 21) ∧ lnG (s.1 8) (s.1 11) (s.2 6 28) (s.2 6 29) k12 k13 (s.1 13) (s.1 9) x1) (c_1 : k12 = 0) (o_2 : (0 ≤ k7 ∧ k7 ≤ (s.1 6) ∧ (s.1 6) ≤ 800)) (c_4 : ¬ x1 = 0) (o_20 : (0 ≤ (4 : Int) ∧ (4 : Int) < 6)) (o_22 : (0 ≤ (enx (s.2 4) (s.1 6) k7) ∧ (enx (s.2 4) (s.1 6) k7) ≤ (s.1 6) ∧ (s.1 6) ≤ 800 ∧ ((if k12 = 0 ∧ (knd (s.2 4) (s.1 6) k7) = 1 then sortOf (wrd (s.2 4) (s.1 6) k7) else -1) = -1 ∨ (0 ≤ (i32 (4 * (i32 (24 + (f6 (24 + (4 : Int))))))) ∧ (i32 (4 * (i32 (24 + (f6 (24 + (4 : Int))))))) + 1 < 120)) ∧ (0 ≤ f6 24 ∧ f6 24 ≤ 100))) (f_23 : Int → Int) (k_24 : Int) (k_25 : Int) (k_26 : Int) (k_27 : Int) (k_28 : Int) (k_29 : Int) (k_30 : Int) (q_31 : (wordQ (s.2 4) (s.1 6) (f6 24) (enx (s.2 4) (s.1 6) k7) (knd (s.2 4) (s.1 6) k7) (plc (s.2 4) (s.1 6) k7) (vlu (s.2 4) (s.1 6) k7) (wrd (s.2 4) (s.1 6) k7) k12 k13 f8 k_24 k_25 k_26 k_27 k_28 k_29 k_30 f_23 (i32 (4 * (i32 (24 + (f6 (24 + (4 : Int))))))))) (c_33 : (bI (k_29 = 0)) = 0) (c_35 : (bI (k_29 = 0)) = 0) : lnQ (s.2 4) (s.1 6) (lineP (s.2 4) (s.1 6) (rep (s.2 6) (s.2 7) (s.2 8) (s.2 9) (s.1 21))) (s.1 7) (s.1 8) (s.1 9) (s.1 10) (s.1 11) k_24 k_25 k_26 k_27 k_28 k_29 k_30 (rep (upI f6 28 (i32 ((f6 28) + 1))) f7 f_23 f9 k21) ∧ (∀ z, z < 24 → (upI f6 28 (i32 ((f6 28) + 1))) z = (s.2 6) z) ∧ (∀ z, z < 96 → f7 z = (s.2 7) z) ∧ (∀ z, z < 96 → f_23 z = (s.2 8) z) ∧ (∀ z, z < 80 → f9 z = (s.2 9) z) := by
  obtain ⟨p0, p1, p2, p3, p4, p5, p6, p7, p8⟩ := hp
  (try simp only [Int.add_zero, Int.reduceAdd, bI_0, bI_n, Classical.not_not, p3, true_and] at *)
  (try (have h2 := hI; clear hI; obtain ⟨⟨a1, a2, a3, a4, a5⟩, ⟨b1, b2, b3, b4, b5⟩, hJ⟩ := h2; subst a1 a2 a3 a4 a5 b1 b2 b3 b4 b5))
  (try (have h4 := hJ; obtain ⟨⟨d1, d2⟩, ⟨d3, d4⟩, hd⟩ := h4; clear hJ; subst d1 d2))
  (try simp only [Int.reduceEq, ↓reduceIte] at *)
  (try (have h3 := hJ; clear hJ; obtain ⟨hd, hg⟩ := h3))
  (try have g := hg.resolve_right (fun h => h.1 (by assumption)))
  (try have g := hg.resolve_left (fun h => absurd h.1 (by assumption)))
  (try (have c0 : k12 = 0 := c_1; subst c0))
  (try (have y := g.2.2.resolve_left (fun h => by omega); clear g hg; try clear o_22; try clear o_36; try clear o_57))
  (try (have y := g.2.2.resolve_right (fun h => by omega); clear g hg; try clear o_22; try clear o_36; try clear o_57))
  (try have ex := enx_b (t := s.2 4) p1)
  (try have q181 := q_18.1.1)
  (try have q311 := q_31.1.1)
  (try have q541 := q_54.1)
  (try have q661 := q_66.1.1)
  (try simp (disch := omega) only [i32_id] at *)
  (try unfold lex3)
  (try simp only [bI_0, bI_n, Classical.not_not] at *)
  (try simp (disch := omega) only [i32_id] at *)
  first | done | omega | ((repeat' (with_reducible apply And.intro)) <;> first | (show lnQ _ _ _ _ _ _ _ _ _ _ _ _ _ _ _ _; have hx : x1 = 0 := c_4; exact lnQ_n y.2.1 y.2.2 rfl q_18 (by rw [rep_h (i := 5) (by decide), rep_t (i := s.2 6 29) rfl]; rfl)) | (show lnQ _ _ _ _ _ _ _ _ _ _ _ _ _ _ _ _; have hx : ¬ x1 = 0 := c_4; exact lnQ_s1 y.2.1 y.2.2 q_31 (by assumption)) | (show lnQ _ _ _ _ _ _ _ _ _ _ _ _ _ _ _ _; have hx : ¬ x1 = 0 := c_4; exact lnQ_s2 y.2.1 y.2.2 q_31 (by assumption) q_54 (by assumption)) | (show lnQ _ _ _ _ _ _ _ _ _ _ _ _ _ _ _ _; have hx : ¬ x1 = 0 := c_4; exact lnQ_s3 y.2.1 y.2.2 q_31 (by assumption) q_54 (by assumption) q_66 (fun w v w2 v2 hx => by rw [rep_h (i := 4) (by decide), hx, rep_s (i := 4 * s.2 6 28 + 3) (by omega), rep_s (i := 4 * s.2 6 28 + 2) (by omega), rep_s (i := 4 * s.2 6 28 + 1) (by omega), rep_s (i := 4 * s.2 6 28) (by omega)]; rfl)) | (show lnQ _ _ _ _ _ _ _ _ _ _ _ _ _ _ _ _; exact lnQ_bad ⟨by omega, by omega⟩ hd g.2.2 g.2.1) | (exact lnG_a hd d3 (by assumption) (by assumption)) | (exact lnG_b hd d3 (by assumption) (by assumption)) | (exact lnG_c hd d4 (by assumption) (by assumption)) | (exact lnG_d hd d4 (by assumption) (by assumption) (by assumption)) | (exact lnG_e hd d3 d4 (by assumption) (by assumption)) | (exact lnG_x d3 d4 (by assumption) (by assumption)) | assumption | rfl | omega | (show lnQ _ _ _ _ _ _ _ _ _ _ _ _ _ _ _ _; exact lnQ_do q_16.1 (by omega) (by omega)) | (intro z hz; exact q_16.2.1 z (by omega)) | (exact q_16.2.2.1) | (intro z hz; rw [upI_n _ _ (by omega)]) | (intro z hz; rfl) | (intro z hz; rw [q_66.2.2.1 z (by omega) (by omega), q_31.2.2.1 z (by omega) (by omega)]) | (intro z hz; exact q_31.2.2.1 z (by omega) (by omega)) | grind [upI])
theorem vX3_line_61 (s : MS) (hp : 0 ≤ (s.1 7) ∧ (s.1 7) ≤ (s.1 6) ∧ (s.1 6) ≤ 800 ∧ (s.1 12) = 0 ∧ (0 ≤ (s.2 6) 24 ∧ (s.2 6) 24 ≤ 100) ∧ ((s.1 21) = 0 → (s.2 6) 27 = 0) ∧ (0 ≤ (s.2 6) 28 ∧ (s.2 6) 28 ≤ 6) ∧ (0 ≤ (s.2 6) 29 ∧ (s.2 6) 29 ≤ 20) ∧ (0 ≤ (s.2 6) 26 ∧ (s.2 6) 26 ≤ 200000)) (x1 : Int) (f6 : Int → Int) (f7 : Int → Int) (f8 : Int → Int) (f9 : Int → Int) (k7 : Int) (k8 : Int) (k9 : Int) (k10 : Int) (k11 : Int) (k12 : Int) (k13 : Int) (k21 : Int) (hI : (k7 = s.1 7 ∧ k8 = s.1 8 ∧ k9 = s.1 9 ∧ k10 = s.1 10 ∧ k11 = s.1 11) ∧ (f6 = s.2 6 ∧ f7 = s.2 7 ∧ f8 = s.2 8 ∧ f9 = s.2 9 ∧ k21 = s.1 21) ∧ lnG (s.1 8) (s.1 11) (s.2 6 28) (s.2 6 29) k12 k13 (s.1 13) (s.1 9) x1) (c_1 : k12 = 0) (o_2 : (0 ≤ k7 ∧ k7 ≤ (s.1 6) ∧ (s.1 6) ≤ 800)) (c_4 : ¬ x1 = 0) (o_20 : (0 ≤ (4 : Int) ∧ (4 : Int) < 6)) (o_22 : (0 ≤ (enx (s.2 4) (s.1 6) k7) ∧ (enx (s.2 4) (s.1 6) k7) ≤ (s.1 6) ∧ (s.1 6) ≤ 800 ∧ ((if k12 = 0 ∧ (knd (s.2 4) (s.1 6) k7) = 1 then sortOf (wrd (s.2 4) (s.1 6) k7) else -1) = -1 ∨ (0 ≤ (i32 (4 * (i32 (24 + (f6 (24 + (4 : Int))))))) ∧ (i32 (4 * (i32 (24 + (f6 (24 + (4 : Int))))))) + 1 < 120)) ∧ (0 ≤ f6 24 ∧ f6 24 ≤ 100))) (f_23 : Int → Int) (k_24 : Int) (k_25 : Int) (k_26 : Int) (k_27 : Int) (k_28 : Int) (k_29 : Int) (k_30 : Int) (q_31 : (wordQ (s.2 4) (s.1 6) (f6 24) (enx (s.2 4) (s.1 6) k7) (knd (s.2 4) (s.1 6) k7) (plc (s.2 4) (s.1 6) k7) (vlu (s.2 4) (s.1 6) k7) (wrd (s.2 4) (s.1 6) k7) k12 k13 f8 k_24 k_25 k_26 k_27 k_28 k_29 k_30 f_23 (i32 (4 * (i32 (24 + (f6 (24 + (4 : Int))))))))) (c_33 : (bI (k_29 = 0)) = 0) (c_35 : ¬ (bI (k_29 = 0)) = 0) : (0 ≤ k_24 ∧ k_24 ≤ (s.1 6) ∧ (s.1 6) ≤ 800 ∧ ((if k_29 = 0 ∧ k_25 = 1 then sortOf k_28 else -1) = -1 ∨ (0 ≤ (i32 ((i32 (4 * (i32 (24 + (f6 (24 + (4 : Int))))))) + 2)) ∧ (i32 ((i32 (4 * (i32 (24 + (f6 (24 + (4 : Int))))))) + 2)) + 1 < 120)) ∧ (0 ≤ f6 24 ∧ f6 24 ≤ 100)) := by
  obtain ⟨p0, p1, p2, p3, p4, p5, p6, p7, p8⟩ := hp
  (try simp only [Int.add_zero, Int.reduceAdd, bI_0, bI_n, Classical.not_not, p3, true_and] at *)
  (try (have h2 := hI; clear hI; obtain ⟨⟨a1, a2, a3, a4, a5⟩, ⟨b1, b2, b3, b4, b5⟩, hJ⟩ := h2; subst a1 a2 a3 a4 a5 b1 b2 b3 b4 b5))
  (try (have h4 := hJ; obtain ⟨⟨d1, d2⟩, ⟨d3, d4⟩, hd⟩ := h4; clear hJ; subst d1 d2))
  (try simp only [Int.reduceEq, ↓reduceIte] at *)
  (try (have h3 := hJ; clear hJ; obtain ⟨hd, hg⟩ := h3))
  (try have g := hg.resolve_right (fun h => h.1 (by assumption)))
  (try have g := hg.resolve_left (fun h => absurd h.1 (by assumption)))
  (try (have c0 : k12 = 0 := c_1; subst c0))
  (try (have y := g.2.2.resolve_left (fun h => by omega); clear g hg; try clear o_22; try clear o_36; try clear o_57))
  (try (have y := g.2.2.resolve_right (fun h => by omega); clear g hg; try clear o_22; try clear o_36; try clear o_57))
  (try have ex := enx_b (t := s.2 4) p1)
  (try have q181 := q_18.1.1)
  (try have q311 := q_31.1.1)
  (try have q541 := q_54.1)
  (try have q661 := q_66.1.1)
  (try simp (disch := omega) only [i32_id] at *)
  (try unfold lex3)
  (try simp only [bI_0, bI_n, Classical.not_not] at *)
  (try simp (disch := omega) only [i32_id] at *)
  first | done | omega | ((repeat' (with_reducible apply And.intro)) <;> first | (show lnQ _ _ _ _ _ _ _ _ _ _ _ _ _ _ _ _; have hx : x1 = 0 := c_4; exact lnQ_n y.2.1 y.2.2 rfl q_18 (by rw [rep_h (i := 5) (by decide), rep_t (i := s.2 6 29) rfl]; rfl)) | (show lnQ _ _ _ _ _ _ _ _ _ _ _ _ _ _ _ _; have hx : ¬ x1 = 0 := c_4; exact lnQ_s1 y.2.1 y.2.2 q_31 (by assumption)) | (show lnQ _ _ _ _ _ _ _ _ _ _ _ _ _ _ _ _; have hx : ¬ x1 = 0 := c_4; exact lnQ_s2 y.2.1 y.2.2 q_31 (by assumption) q_54 (by assumption)) | (show lnQ _ _ _ _ _ _ _ _ _ _ _ _ _ _ _ _; have hx : ¬ x1 = 0 := c_4; exact lnQ_s3 y.2.1 y.2.2 q_31 (by assumption) q_54 (by assumption) q_66 (fun w v w2 v2 hx => by rw [rep_h (i := 4) (by decide), hx, rep_s (i := 4 * s.2 6 28 + 3) (by omega), rep_s (i := 4 * s.2 6 28 + 2) (by omega), rep_s (i := 4 * s.2 6 28 + 1) (by omega), rep_s (i := 4 * s.2 6 28) (by omega)]; rfl)) | (show lnQ _ _ _ _ _ _ _ _ _ _ _ _ _ _ _ _; exact lnQ_bad ⟨by omega, by omega⟩ hd g.2.2 g.2.1) | (exact lnG_a hd d3 (by assumption) (by assumption)) | (exact lnG_b hd d3 (by assumption) (by assumption)) | (exact lnG_c hd d4 (by assumption) (by assumption)) | (exact lnG_d hd d4 (by assumption) (by assumption) (by assumption)) | (exact lnG_e hd d3 d4 (by assumption) (by assumption)) | (exact lnG_x d3 d4 (by assumption) (by assumption)) | assumption | rfl | omega | (show lnQ _ _ _ _ _ _ _ _ _ _ _ _ _ _ _ _; exact lnQ_do q_16.1 (by omega) (by omega)) | (intro z hz; exact q_16.2.1 z (by omega)) | (exact q_16.2.2.1) | (intro z hz; rw [upI_n _ _ (by omega)]) | (intro z hz; rfl) | (intro z hz; rw [q_66.2.2.1 z (by omega) (by omega), q_31.2.2.1 z (by omega) (by omega)]) | (intro z hz; exact q_31.2.2.1 z (by omega) (by omega)) | grind [upI])
theorem vX3_line_62 (s : MS) (hp : 0 ≤ (s.1 7) ∧ (s.1 7) ≤ (s.1 6) ∧ (s.1 6) ≤ 800 ∧ (s.1 12) = 0 ∧ (0 ≤ (s.2 6) 24 ∧ (s.2 6) 24 ≤ 100) ∧ ((s.1 21) = 0 → (s.2 6) 27 = 0) ∧ (0 ≤ (s.2 6) 28 ∧ (s.2 6) 28 ≤ 6) ∧ (0 ≤ (s.2 6) 29 ∧ (s.2 6) 29 ≤ 20) ∧ (0 ≤ (s.2 6) 26 ∧ (s.2 6) 26 ≤ 200000)) (x1 : Int) (f6 : Int → Int) (f7 : Int → Int) (f8 : Int → Int) (f9 : Int → Int) (k7 : Int) (k8 : Int) (k9 : Int) (k10 : Int) (k11 : Int) (k12 : Int) (k13 : Int) (k21 : Int) (hI : (k7 = s.1 7 ∧ k8 = s.1 8 ∧ k9 = s.1 9 ∧ k10 = s.1 10 ∧ k11 = s.1 11) ∧ (f6 = s.2 6 ∧ f7 = s.2 7 ∧ f8 = s.2 8 ∧ f9 = s.2 9 ∧ k21 = s.1 21) ∧ lnG (s.1 8) (s.1 11) (s.2 6 28) (s.2 6 29) k12 k13 (s.1 13) (s.1 9) x1) (c_1 : k12 = 0) (o_2 : (0 ≤ k7 ∧ k7 ≤ (s.1 6) ∧ (s.1 6) ≤ 800)) (c_4 : ¬ x1 = 0) (o_20 : (0 ≤ (4 : Int) ∧ (4 : Int) < 6)) (o_22 : (0 ≤ (enx (s.2 4) (s.1 6) k7) ∧ (enx (s.2 4) (s.1 6) k7) ≤ (s.1 6) ∧ (s.1 6) ≤ 800 ∧ ((if k12 = 0 ∧ (knd (s.2 4) (s.1 6) k7) = 1 then sortOf (wrd (s.2 4) (s.1 6) k7) else -1) = -1 ∨ (0 ≤ (i32 (4 * (i32 (24 + (f6 (24 + (4 : Int))))))) ∧ (i32 (4 * (i32 (24 + (f6 (24 + (4 : Int))))))) + 1 < 120)) ∧ (0 ≤ f6 24 ∧ f6 24 ≤ 100))) (f_23 : Int → Int) (k_24 : Int) (k_25 : Int) (k_26 : Int) (k_27 : Int) (k_28 : Int) (k_29 : Int) (k_30 : Int) (q_31 : (wordQ (s.2 4) (s.1 6) (f6 24) (enx (s.2 4) (s.1 6) k7) (knd (s.2 4) (s.1 6) k7) (plc (s.2 4) (s.1 6) k7) (vlu (s.2 4) (s.1 6) k7) (wrd (s.2 4) (s.1 6) k7) k12 k13 f8 k_24 k_25 k_26 k_27 k_28 k_29 k_30 f_23 (i32 (4 * (i32 (24 + (f6 (24 + (4 : Int))))))))) (c_33 : (bI (k_29 = 0)) = 0) (c_35 : ¬ (bI (k_29 = 0)) = 0) (o_36 : (0 ≤ k_24 ∧ k_24 ≤ (s.1 6) ∧ (s.1 6) ≤ 800 ∧ ((if k_29 = 0 ∧ k_25 = 1 then sortOf k_28 else -1) = -1 ∨ (0 ≤ (i32 ((i32 (4 * (i32 (24 + (f6 (24 + (4 : Int))))))) + 2)) ∧ (i32 ((i32 (4 * (i32 (24 + (f6 (24 + (4 : Int))))))) + 2)) + 1 < 120)) ∧ (0 ≤ f6 24 ∧ f6 24 ≤ 100))) (f_37 : Int → Int) (k_38 : Int) (k_39 : Int) (k_40 : Int) (k_41 : Int) (k_42 : Int) (k_43 : Int) (k_44 : Int) (q_45 : (wordQ (s.2 4) (s.1 6) (f6 24) k_24 k_25 k_26 k_27 k_28 k_29 k_30 f_23 k_38 k_39 k_40 k_41 k_42 k_43 k_44 f_37 (i32 ((i32 (4 * (i32 (24 + (f6 (24 + (4 : Int))))))) + 2)))) : lnQ (s.2 4) (s.1 6) (lineP (s.2 4) (s.1 6) (rep (s.2 6) (s.2 7) (s.2 8) (s.2 9) (s.1 21))) (s.1 7) (s.1 8) (s.1 9) (s.1 10) (s.1 11) k_38 k_39 k_40 k_41 k_42 k_43 k_44 (rep (upI f6 28 (i32 ((f6 28) + 1))) f7 f_37 f9 k21) ∧ (∀ z, z < 24 → (upI f6 28 (i32 ((f6 28) + 1))) z = (s.2 6) z) ∧ (∀ z, z < 96 → f7 z = (s.2 7) z) ∧ (∀ z, z < 96 → f_37 z = (s.2 8) z) ∧ (∀ z, z < 80 → f9 z = (s.2 9) z) := by
  obtain ⟨p0, p1, p2, p3, p4, p5, p6, p7, p8⟩ := hp
  (try simp only [Int.add_zero, Int.reduceAdd, bI_0, bI_n, Classical.not_not, p3, true_and] at *)
  (try (have h2 := hI; clear hI; obtain ⟨⟨a1, a2, a3, a4, a5⟩, ⟨b1, b2, b3, b4, b5⟩, hJ⟩ := h2; subst a1 a2 a3 a4 a5 b1 b2 b3 b4 b5))
  (try (have h4 := hJ; obtain ⟨⟨d1, d2⟩, ⟨d3, d4⟩, hd⟩ := h4; clear hJ; subst d1 d2))
  (try simp only [Int.reduceEq, ↓reduceIte] at *)
  (try (have h3 := hJ; clear hJ; obtain ⟨hd, hg⟩ := h3))
  (try have g := hg.resolve_right (fun h => h.1 (by assumption)))
  (try have g := hg.resolve_left (fun h => absurd h.1 (by assumption)))
  (try (have c0 : k12 = 0 := c_1; subst c0))
  (try (have y := g.2.2.resolve_left (fun h => by omega); clear g hg; try clear o_22; try clear o_36; try clear o_57))
  (try (have y := g.2.2.resolve_right (fun h => by omega); clear g hg; try clear o_22; try clear o_36; try clear o_57))
  (try have ex := enx_b (t := s.2 4) p1)
  (try have q181 := q_18.1.1)
  (try have q311 := q_31.1.1)
  (try have q541 := q_54.1)
  (try have q661 := q_66.1.1)
  (try simp (disch := omega) only [i32_id] at *)
  (try unfold lex3)
  (try simp only [bI_0, bI_n, Classical.not_not] at *)
  (try simp (disch := omega) only [i32_id] at *)
  first | done | omega | ((repeat' (with_reducible apply And.intro)) <;> first | (show lnQ _ _ _ _ _ _ _ _ _ _ _ _ _ _ _ _; have hx : x1 = 0 := c_4; exact lnQ_n y.2.1 y.2.2 rfl q_18 (by rw [rep_h (i := 5) (by decide), rep_t (i := s.2 6 29) rfl]; rfl)) | (show lnQ _ _ _ _ _ _ _ _ _ _ _ _ _ _ _ _; have hx : ¬ x1 = 0 := c_4; exact lnQ_s1 y.2.1 y.2.2 q_31 (by assumption)) | (show lnQ _ _ _ _ _ _ _ _ _ _ _ _ _ _ _ _; have hx : ¬ x1 = 0 := c_4; exact lnQ_s2 y.2.1 y.2.2 q_31 (by assumption) q_54 (by assumption)) | (show lnQ _ _ _ _ _ _ _ _ _ _ _ _ _ _ _ _; have hx : ¬ x1 = 0 := c_4; exact lnQ_s3 y.2.1 y.2.2 q_31 (by assumption) q_54 (by assumption) q_66 (fun w v w2 v2 hx => by rw [rep_h (i := 4) (by decide), hx, rep_s (i := 4 * s.2 6 28 + 3) (by omega), rep_s (i := 4 * s.2 6 28 + 2) (by omega), rep_s (i := 4 * s.2 6 28 + 1) (by omega), rep_s (i := 4 * s.2 6 28) (by omega)]; rfl)) | (show lnQ _ _ _ _ _ _ _ _ _ _ _ _ _ _ _ _; exact lnQ_bad ⟨by omega, by omega⟩ hd g.2.2 g.2.1) | (exact lnG_a hd d3 (by assumption) (by assumption)) | (exact lnG_b hd d3 (by assumption) (by assumption)) | (exact lnG_c hd d4 (by assumption) (by assumption)) | (exact lnG_d hd d4 (by assumption) (by assumption) (by assumption)) | (exact lnG_e hd d3 d4 (by assumption) (by assumption)) | (exact lnG_x d3 d4 (by assumption) (by assumption)) | assumption | rfl | omega | (show lnQ _ _ _ _ _ _ _ _ _ _ _ _ _ _ _ _; exact lnQ_do q_16.1 (by omega) (by omega)) | (intro z hz; exact q_16.2.1 z (by omega)) | (exact q_16.2.2.1) | (intro z hz; rw [upI_n _ _ (by omega)]) | (intro z hz; rfl) | (intro z hz; rw [q_66.2.2.1 z (by omega) (by omega), q_31.2.2.1 z (by omega) (by omega)]) | (intro z hz; exact q_31.2.2.1 z (by omega) (by omega)) | grind [upI])
theorem vX3_line_63 (s : MS) (hp : 0 ≤ (s.1 7) ∧ (s.1 7) ≤ (s.1 6) ∧ (s.1 6) ≤ 800 ∧ (s.1 12) = 0 ∧ (0 ≤ (s.2 6) 24 ∧ (s.2 6) 24 ≤ 100) ∧ ((s.1 21) = 0 → (s.2 6) 27 = 0) ∧ (0 ≤ (s.2 6) 28 ∧ (s.2 6) 28 ≤ 6) ∧ (0 ≤ (s.2 6) 29 ∧ (s.2 6) 29 ≤ 20) ∧ (0 ≤ (s.2 6) 26 ∧ (s.2 6) 26 ≤ 200000)) (x1 : Int) (f6 : Int → Int) (f7 : Int → Int) (f8 : Int → Int) (f9 : Int → Int) (k7 : Int) (k8 : Int) (k9 : Int) (k10 : Int) (k11 : Int) (k12 : Int) (k13 : Int) (k21 : Int) (hI : (k7 = s.1 7 ∧ k8 = s.1 8 ∧ k9 = s.1 9 ∧ k10 = s.1 10 ∧ k11 = s.1 11) ∧ (f6 = s.2 6 ∧ f7 = s.2 7 ∧ f8 = s.2 8 ∧ f9 = s.2 9 ∧ k21 = s.1 21) ∧ lnG (s.1 8) (s.1 11) (s.2 6 28) (s.2 6 29) k12 k13 (s.1 13) (s.1 9) x1) (c_1 : k12 = 0) (o_2 : (0 ≤ k7 ∧ k7 ≤ (s.1 6) ∧ (s.1 6) ≤ 800)) (c_4 : ¬ x1 = 0) (o_20 : (0 ≤ (4 : Int) ∧ (4 : Int) < 6)) (o_22 : (0 ≤ (enx (s.2 4) (s.1 6) k7) ∧ (enx (s.2 4) (s.1 6) k7) ≤ (s.1 6) ∧ (s.1 6) ≤ 800 ∧ ((if k12 = 0 ∧ (knd (s.2 4) (s.1 6) k7) = 1 then sortOf (wrd (s.2 4) (s.1 6) k7) else -1) = -1 ∨ (0 ≤ (i32 (4 * (i32 (24 + (f6 (24 + (4 : Int))))))) ∧ (i32 (4 * (i32 (24 + (f6 (24 + (4 : Int))))))) + 1 < 120)) ∧ (0 ≤ f6 24 ∧ f6 24 ≤ 100))) (f_23 : Int → Int) (k_24 : Int) (k_25 : Int) (k_26 : Int) (k_27 : Int) (k_28 : Int) (k_29 : Int) (k_30 : Int) (q_31 : (wordQ (s.2 4) (s.1 6) (f6 24) (enx (s.2 4) (s.1 6) k7) (knd (s.2 4) (s.1 6) k7) (plc (s.2 4) (s.1 6) k7) (vlu (s.2 4) (s.1 6) k7) (wrd (s.2 4) (s.1 6) k7) k12 k13 f8 k_24 k_25 k_26 k_27 k_28 k_29 k_30 f_23 (i32 (4 * (i32 (24 + (f6 (24 + (4 : Int))))))))) (c_33 : ¬ (bI (k_29 = 0)) = 0) : (0 ≤ k_24 ∧ k_24 ≤ (s.1 6) ∧ (s.1 6) ≤ 800) := by
  obtain ⟨p0, p1, p2, p3, p4, p5, p6, p7, p8⟩ := hp
  (try simp only [Int.add_zero, Int.reduceAdd, bI_0, bI_n, Classical.not_not, p3, true_and] at *)
  (try (have h2 := hI; clear hI; obtain ⟨⟨a1, a2, a3, a4, a5⟩, ⟨b1, b2, b3, b4, b5⟩, hJ⟩ := h2; subst a1 a2 a3 a4 a5 b1 b2 b3 b4 b5))
  (try (have h4 := hJ; obtain ⟨⟨d1, d2⟩, ⟨d3, d4⟩, hd⟩ := h4; clear hJ; subst d1 d2))
  (try simp only [Int.reduceEq, ↓reduceIte] at *)
  (try (have h3 := hJ; clear hJ; obtain ⟨hd, hg⟩ := h3))
  (try have g := hg.resolve_right (fun h => h.1 (by assumption)))
  (try have g := hg.resolve_left (fun h => absurd h.1 (by assumption)))
  (try (have c0 : k12 = 0 := c_1; subst c0))
  (try (have y := g.2.2.resolve_left (fun h => by omega); clear g hg; try clear o_22; try clear o_36; try clear o_57))
  (try (have y := g.2.2.resolve_right (fun h => by omega); clear g hg; try clear o_22; try clear o_36; try clear o_57))
  (try have ex := enx_b (t := s.2 4) p1)
  (try have q181 := q_18.1.1)
  (try have q311 := q_31.1.1)
  (try have q541 := q_54.1)
  (try have q661 := q_66.1.1)
  (try simp (disch := omega) only [i32_id] at *)
  (try unfold lex3)
  (try simp only [bI_0, bI_n, Classical.not_not] at *)
  (try simp (disch := omega) only [i32_id] at *)
  first | done | omega | ((repeat' (with_reducible apply And.intro)) <;> first | (show lnQ _ _ _ _ _ _ _ _ _ _ _ _ _ _ _ _; have hx : x1 = 0 := c_4; exact lnQ_n y.2.1 y.2.2 rfl q_18 (by rw [rep_h (i := 5) (by decide), rep_t (i := s.2 6 29) rfl]; rfl)) | (show lnQ _ _ _ _ _ _ _ _ _ _ _ _ _ _ _ _; have hx : ¬ x1 = 0 := c_4; exact lnQ_s1 y.2.1 y.2.2 q_31 (by assumption)) | (show lnQ _ _ _ _ _ _ _ _ _ _ _ _ _ _ _ _; have hx : ¬ x1 = 0 := c_4; exact lnQ_s2 y.2.1 y.2.2 q_31 (by assumption) q_54 (by assumption)) | (show lnQ _ _ _ _ _ _ _ _ _ _ _ _ _ _ _ _; have hx : ¬ x1 = 0 := c_4; exact lnQ_s3 y.2.1 y.2.2 q_31 (by assumption) q_54 (by assumption) q_66 (fun w v w2 v2 hx => by rw [rep_h (i := 4) (by decide), hx, rep_s (i := 4 * s.2 6 28 + 3) (by omega), rep_s (i := 4 * s.2 6 28 + 2) (by omega), rep_s (i := 4 * s.2 6 28 + 1) (by omega), rep_s (i := 4 * s.2 6 28) (by omega)]; rfl)) | (show lnQ _ _ _ _ _ _ _ _ _ _ _ _ _ _ _ _; exact lnQ_bad ⟨by omega, by omega⟩ hd g.2.2 g.2.1) | (exact lnG_a hd d3 (by assumption) (by assumption)) | (exact lnG_b hd d3 (by assumption) (by assumption)) | (exact lnG_c hd d4 (by assumption) (by assumption)) | (exact lnG_d hd d4 (by assumption) (by assumption) (by assumption)) | (exact lnG_e hd d3 d4 (by assumption) (by assumption)) | (exact lnG_x d3 d4 (by assumption) (by assumption)) | assumption | rfl | omega | (show lnQ _ _ _ _ _ _ _ _ _ _ _ _ _ _ _ _; exact lnQ_do q_16.1 (by omega) (by omega)) | (intro z hz; exact q_16.2.1 z (by omega)) | (exact q_16.2.2.1) | (intro z hz; rw [upI_n _ _ (by omega)]) | (intro z hz; rfl) | (intro z hz; rw [q_66.2.2.1 z (by omega) (by omega), q_31.2.2.1 z (by omega) (by omega)]) | (intro z hz; exact q_31.2.2.1 z (by omega) (by omega)) | grind [upI])
theorem vX3_line_64 (s : MS) (hp : 0 ≤ (s.1 7) ∧ (s.1 7) ≤ (s.1 6) ∧ (s.1 6) ≤ 800 ∧ (s.1 12) = 0 ∧ (0 ≤ (s.2 6) 24 ∧ (s.2 6) 24 ≤ 100) ∧ ((s.1 21) = 0 → (s.2 6) 27 = 0) ∧ (0 ≤ (s.2 6) 28 ∧ (s.2 6) 28 ≤ 6) ∧ (0 ≤ (s.2 6) 29 ∧ (s.2 6) 29 ≤ 20) ∧ (0 ≤ (s.2 6) 26 ∧ (s.2 6) 26 ≤ 200000)) (x1 : Int) (f6 : Int → Int) (f7 : Int → Int) (f8 : Int → Int) (f9 : Int → Int) (k7 : Int) (k8 : Int) (k9 : Int) (k10 : Int) (k11 : Int) (k12 : Int) (k13 : Int) (k21 : Int) (hI : (k7 = s.1 7 ∧ k8 = s.1 8 ∧ k9 = s.1 9 ∧ k10 = s.1 10 ∧ k11 = s.1 11) ∧ (f6 = s.2 6 ∧ f7 = s.2 7 ∧ f8 = s.2 8 ∧ f9 = s.2 9 ∧ k21 = s.1 21) ∧ lnG (s.1 8) (s.1 11) (s.2 6 28) (s.2 6 29) k12 k13 (s.1 13) (s.1 9) x1) (c_1 : k12 = 0) (o_2 : (0 ≤ k7 ∧ k7 ≤ (s.1 6) ∧ (s.1 6) ≤ 800)) (c_4 : ¬ x1 = 0) (o_20 : (0 ≤ (4 : Int) ∧ (4 : Int) < 6)) (o_22 : (0 ≤ (enx (s.2 4) (s.1 6) k7) ∧ (enx (s.2 4) (s.1 6) k7) ≤ (s.1 6) ∧ (s.1 6) ≤ 800 ∧ ((if k12 = 0 ∧ (knd (s.2 4) (s.1 6) k7) = 1 then sortOf (wrd (s.2 4) (s.1 6) k7) else -1) = -1 ∨ (0 ≤ (i32 (4 * (i32 (24 + (f6 (24 + (4 : Int))))))) ∧ (i32 (4 * (i32 (24 + (f6 (24 + (4 : Int))))))) + 1 < 120)) ∧ (0 ≤ f6 24 ∧ f6 24 ≤ 100))) (f_23 : Int → Int) (k_24 : Int) (k_25 : Int) (k_26 : Int) (k_27 : Int) (k_28 : Int) (k_29 : Int) (k_30 : Int) (q_31 : (wordQ (s.2 4) (s.1 6) (f6 24) (enx (s.2 4) (s.1 6) k7) (knd (s.2 4) (s.1 6) k7) (plc (s.2 4) (s.1 6) k7) (vlu (s.2 4) (s.1 6) k7) (wrd (s.2 4) (s.1 6) k7) k12 k13 f8 k_24 k_25 k_26 k_27 k_28 k_29 k_30 f_23 (i32 (4 * (i32 (24 + (f6 (24 + (4 : Int))))))))) (c_33 : ¬ (bI (k_29 = 0)) = 0) (o_46 : (0 ≤ k_24 ∧ k_24 ≤ (s.1 6) ∧ (s.1 6) ≤ 800)) (k_47 : Int) (k_48 : Int) (k_49 : Int) (k_50 : Int) (k_51 : Int) (k_52 : Int) (k_53 : Int) (q_54 : (needQ (s.2 4) (s.1 6) (4797 : Int) k_24 k_25 k_26 k_27 k_28 k_29 k_30 k_47 k_48 k_49 k_50 k_51 k_52 k_53)) (c_56 : (bI (k_52 = 0)) = 0) : lnQ (s.2 4) (s.1 6) (lineP (s.2 4) (s.1 6) (rep (s.2 6) (s.2 7) (s.2 8) (s.2 9) (s.1 21))) (s.1 7) (s.1 8) (s.1 9) (s.1 10) (s.1 11) k_47 k_48 k_49 k_50 k_51 k_52 k_53 (rep (upI f6 28 (i32 ((f6 28) + 1))) f7 f_23 f9 k21) ∧ (∀ z, z < 24 → (upI f6 28 (i32 ((f6 28) + 1))) z = (s.2 6) z) ∧ (∀ z, z < 96 → f7 z = (s.2 7) z) ∧ (∀ z, z < 96 → f_23 z = (s.2 8) z) ∧ (∀ z, z < 80 → f9 z = (s.2 9) z) := by
  obtain ⟨p0, p1, p2, p3, p4, p5, p6, p7, p8⟩ := hp
  (try simp only [Int.add_zero, Int.reduceAdd, bI_0, bI_n, Classical.not_not, p3, true_and] at *)
  (try (have h2 := hI; clear hI; obtain ⟨⟨a1, a2, a3, a4, a5⟩, ⟨b1, b2, b3, b4, b5⟩, hJ⟩ := h2; subst a1 a2 a3 a4 a5 b1 b2 b3 b4 b5))
  (try (have h4 := hJ; obtain ⟨⟨d1, d2⟩, ⟨d3, d4⟩, hd⟩ := h4; clear hJ; subst d1 d2))
  (try simp only [Int.reduceEq, ↓reduceIte] at *)
  (try (have h3 := hJ; clear hJ; obtain ⟨hd, hg⟩ := h3))
  (try have g := hg.resolve_right (fun h => h.1 (by assumption)))
  (try have g := hg.resolve_left (fun h => absurd h.1 (by assumption)))
  (try (have c0 : k12 = 0 := c_1; subst c0))
  (try (have y := g.2.2.resolve_left (fun h => by omega); clear g hg; try clear o_22; try clear o_36; try clear o_57))
  (try (have y := g.2.2.resolve_right (fun h => by omega); clear g hg; try clear o_22; try clear o_36; try clear o_57))
  (try have ex := enx_b (t := s.2 4) p1)
  (try have q181 := q_18.1.1)
  (try have q311 := q_31.1.1)
  (try have q541 := q_54.1)
  (try have q661 := q_66.1.1)
  (try simp (disch := omega) only [i32_id] at *)
  (try unfold lex3)
  (try simp only [bI_0, bI_n, Classical.not_not] at *)
  (try simp (disch := omega) only [i32_id] at *)
  first | done | omega | ((repeat' (with_reducible apply And.intro)) <;> first | (show lnQ _ _ _ _ _ _ _ _ _ _ _ _ _ _ _ _; have hx : x1 = 0 := c_4; exact lnQ_n y.2.1 y.2.2 rfl q_18 (by rw [rep_h (i := 5) (by decide), rep_t (i := s.2 6 29) rfl]; rfl)) | (show lnQ _ _ _ _ _ _ _ _ _ _ _ _ _ _ _ _; have hx : ¬ x1 = 0 := c_4; exact lnQ_s1 y.2.1 y.2.2 q_31 (by assumption)) | (show lnQ _ _ _ _ _ _ _ _ _ _ _ _ _ _ _ _; have hx : ¬ x1 = 0 := c_4; exact lnQ_s2 y.2.1 y.2.2 q_31 (by assumption) q_54 (by assumption)) | (show lnQ _ _ _ _ _ _ _ _ _ _ _ _ _ _ _ _; have hx : ¬ x1 = 0 := c_4; exact lnQ_s3 y.2.1 y.2.2 q_31 (by assumption) q_54 (by assumption) q_66 (fun w v w2 v2 hx => by rw [rep_h (i := 4) (by decide), hx, rep_s (i := 4 * s.2 6 28 + 3) (by omega), rep_s (i := 4 * s.2 6 28 + 2) (by omega), rep_s (i := 4 * s.2 6 28 + 1) (by omega), rep_s (i := 4 * s.2 6 28) (by omega)]; rfl)) | (show lnQ _ _ _ _ _ _ _ _ _ _ _ _ _ _ _ _; exact lnQ_bad ⟨by omega, by omega⟩ hd g.2.2 g.2.1) | (exact lnG_a hd d3 (by assumption) (by assumption)) | (exact lnG_b hd d3 (by assumption) (by assumption)) | (exact lnG_c hd d4 (by assumption) (by assumption)) | (exact lnG_d hd d4 (by assumption) (by assumption) (by assumption)) | (exact lnG_e hd d3 d4 (by assumption) (by assumption)) | (exact lnG_x d3 d4 (by assumption) (by assumption)) | assumption | rfl | omega | (show lnQ _ _ _ _ _ _ _ _ _ _ _ _ _ _ _ _; exact lnQ_do q_16.1 (by omega) (by omega)) | (intro z hz; exact q_16.2.1 z (by omega)) | (exact q_16.2.2.1) | (intro z hz; rw [upI_n _ _ (by omega)]) | (intro z hz; rfl) | (intro z hz; rw [q_66.2.2.1 z (by omega) (by omega), q_31.2.2.1 z (by omega) (by omega)]) | (intro z hz; exact q_31.2.2.1 z (by omega) (by omega)) | grind [upI])
theorem vX3_line_65 (s : MS) (hp : 0 ≤ (s.1 7) ∧ (s.1 7) ≤ (s.1 6) ∧ (s.1 6) ≤ 800 ∧ (s.1 12) = 0 ∧ (0 ≤ (s.2 6) 24 ∧ (s.2 6) 24 ≤ 100) ∧ ((s.1 21) = 0 → (s.2 6) 27 = 0) ∧ (0 ≤ (s.2 6) 28 ∧ (s.2 6) 28 ≤ 6) ∧ (0 ≤ (s.2 6) 29 ∧ (s.2 6) 29 ≤ 20) ∧ (0 ≤ (s.2 6) 26 ∧ (s.2 6) 26 ≤ 200000)) (x1 : Int) (f6 : Int → Int) (f7 : Int → Int) (f8 : Int → Int) (f9 : Int → Int) (k7 : Int) (k8 : Int) (k9 : Int) (k10 : Int) (k11 : Int) (k12 : Int) (k13 : Int) (k21 : Int) (hI : (k7 = s.1 7 ∧ k8 = s.1 8 ∧ k9 = s.1 9 ∧ k10 = s.1 10 ∧ k11 = s.1 11) ∧ (f6 = s.2 6 ∧ f7 = s.2 7 ∧ f8 = s.2 8 ∧ f9 = s.2 9 ∧ k21 = s.1 21) ∧ lnG (s.1 8) (s.1 11) (s.2 6 28) (s.2 6 29) k12 k13 (s.1 13) (s.1 9) x1) (c_1 : k12 = 0) (o_2 : (0 ≤ k7 ∧ k7 ≤ (s.1 6) ∧ (s.1 6) ≤ 800)) (c_4 : ¬ x1 = 0) (o_20 : (0 ≤ (4 : Int) ∧ (4 : Int) < 6)) (o_22 : (0 ≤ (enx (s.2 4) (s.1 6) k7) ∧ (enx (s.2 4) (s.1 6) k7) ≤ (s.1 6) ∧ (s.1 6) ≤ 800 ∧ ((if k12 = 0 ∧ (knd (s.2 4) (s.1 6) k7) = 1 then sortOf (wrd (s.2 4) (s.1 6) k7) else -1) = -1 ∨ (0 ≤ (i32 (4 * (i32 (24 + (f6 (24 + (4 : Int))))))) ∧ (i32 (4 * (i32 (24 + (f6 (24 + (4 : Int))))))) + 1 < 120)) ∧ (0 ≤ f6 24 ∧ f6 24 ≤ 100))) (f_23 : Int → Int) (k_24 : Int) (k_25 : Int) (k_26 : Int) (k_27 : Int) (k_28 : Int) (k_29 : Int) (k_30 : Int) (q_31 : (wordQ (s.2 4) (s.1 6) (f6 24) (enx (s.2 4) (s.1 6) k7) (knd (s.2 4) (s.1 6) k7) (plc (s.2 4) (s.1 6) k7) (vlu (s.2 4) (s.1 6) k7) (wrd (s.2 4) (s.1 6) k7) k12 k13 f8 k_24 k_25 k_26 k_27 k_28 k_29 k_30 f_23 (i32 (4 * (i32 (24 + (f6 (24 + (4 : Int))))))))) (c_33 : ¬ (bI (k_29 = 0)) = 0) (o_46 : (0 ≤ k_24 ∧ k_24 ≤ (s.1 6) ∧ (s.1 6) ≤ 800)) (k_47 : Int) (k_48 : Int) (k_49 : Int) (k_50 : Int) (k_51 : Int) (k_52 : Int) (k_53 : Int) (q_54 : (needQ (s.2 4) (s.1 6) (4797 : Int) k_24 k_25 k_26 k_27 k_28 k_29 k_30 k_47 k_48 k_49 k_50 k_51 k_52 k_53)) (c_56 : ¬ (bI (k_52 = 0)) = 0) : (0 ≤ k_47 ∧ k_47 ≤ (s.1 6) ∧ (s.1 6) ≤ 800 ∧ ((if k_52 = 0 ∧ k_48 = 1 then sortOf k_51 else -1) = -1 ∨ (0 ≤ (i32 ((i32 (4 * (i32 (24 + (f6 (24 + (4 : Int))))))) + 2)) ∧ (i32 ((i32 (4 * (i32 (24 + (f6 (24 + (4 : Int))))))) + 2)) + 1 < 120)) ∧ (0 ≤ f6 24 ∧ f6 24 ≤ 100)) := by
  obtain ⟨p0, p1, p2, p3, p4, p5, p6, p7, p8⟩ := hp
  (try simp only [Int.add_zero, Int.reduceAdd, bI_0, bI_n, Classical.not_not, p3, true_and] at *)
  (try (have h2 := hI; clear hI; obtain ⟨⟨a1, a2, a3, a4, a5⟩, ⟨b1, b2, b3, b4, b5⟩, hJ⟩ := h2; subst a1 a2 a3 a4 a5 b1 b2 b3 b4 b5))
  (try (have h4 := hJ; obtain ⟨⟨d1, d2⟩, ⟨d3, d4⟩, hd⟩ := h4; clear hJ; subst d1 d2))
  (try simp only [Int.reduceEq, ↓reduceIte] at *)
  (try (have h3 := hJ; clear hJ; obtain ⟨hd, hg⟩ := h3))
  (try have g := hg.resolve_right (fun h => h.1 (by assumption)))
  (try have g := hg.resolve_left (fun h => absurd h.1 (by assumption)))
  (try (have c0 : k12 = 0 := c_1; subst c0))
  (try (have y := g.2.2.resolve_left (fun h => by omega); clear g hg; try clear o_22; try clear o_36; try clear o_57))
  (try (have y := g.2.2.resolve_right (fun h => by omega); clear g hg; try clear o_22; try clear o_36; try clear o_57))
  (try have ex := enx_b (t := s.2 4) p1)
  (try have q181 := q_18.1.1)
  (try have q311 := q_31.1.1)
  (try have q541 := q_54.1)
  (try have q661 := q_66.1.1)
  (try simp (disch := omega) only [i32_id] at *)
  (try unfold lex3)
  (try simp only [bI_0, bI_n, Classical.not_not] at *)
  (try simp (disch := omega) only [i32_id] at *)
  first | done | omega | ((repeat' (with_reducible apply And.intro)) <;> first | (show lnQ _ _ _ _ _ _ _ _ _ _ _ _ _ _ _ _; have hx : x1 = 0 := c_4; exact lnQ_n y.2.1 y.2.2 rfl q_18 (by rw [rep_h (i := 5) (by decide), rep_t (i := s.2 6 29) rfl]; rfl)) | (show lnQ _ _ _ _ _ _ _ _ _ _ _ _ _ _ _ _; have hx : ¬ x1 = 0 := c_4; exact lnQ_s1 y.2.1 y.2.2 q_31 (by assumption)) | (show lnQ _ _ _ _ _ _ _ _ _ _ _ _ _ _ _ _; have hx : ¬ x1 = 0 := c_4; exact lnQ_s2 y.2.1 y.2.2 q_31 (by assumption) q_54 (by assumption)) | (show lnQ _ _ _ _ _ _ _ _ _ _ _ _ _ _ _ _; have hx : ¬ x1 = 0 := c_4; exact lnQ_s3 y.2.1 y.2.2 q_31 (by assumption) q_54 (by assumption) q_66 (fun w v w2 v2 hx => by rw [rep_h (i := 4) (by decide), hx, rep_s (i := 4 * s.2 6 28 + 3) (by omega), rep_s (i := 4 * s.2 6 28 + 2) (by omega), rep_s (i := 4 * s.2 6 28 + 1) (by omega), rep_s (i := 4 * s.2 6 28) (by omega)]; rfl)) | (show lnQ _ _ _ _ _ _ _ _ _ _ _ _ _ _ _ _; exact lnQ_bad ⟨by omega, by omega⟩ hd g.2.2 g.2.1) | (exact lnG_a hd d3 (by assumption) (by assumption)) | (exact lnG_b hd d3 (by assumption) (by assumption)) | (exact lnG_c hd d4 (by assumption) (by assumption)) | (exact lnG_d hd d4 (by assumption) (by assumption) (by assumption)) | (exact lnG_e hd d3 d4 (by assumption) (by assumption)) | (exact lnG_x d3 d4 (by assumption) (by assumption)) | assumption | rfl | omega | (show lnQ _ _ _ _ _ _ _ _ _ _ _ _ _ _ _ _; exact lnQ_do q_16.1 (by omega) (by omega)) | (intro z hz; exact q_16.2.1 z (by omega)) | (exact q_16.2.2.1) | (intro z hz; rw [upI_n _ _ (by omega)]) | (intro z hz; rfl) | (intro z hz; rw [q_66.2.2.1 z (by omega) (by omega), q_31.2.2.1 z (by omega) (by omega)]) | (intro z hz; exact q_31.2.2.1 z (by omega) (by omega)) | grind [upI])
theorem vX3_line_66 (s : MS) (hp : 0 ≤ (s.1 7) ∧ (s.1 7) ≤ (s.1 6) ∧ (s.1 6) ≤ 800 ∧ (s.1 12) = 0 ∧ (0 ≤ (s.2 6) 24 ∧ (s.2 6) 24 ≤ 100) ∧ ((s.1 21) = 0 → (s.2 6) 27 = 0) ∧ (0 ≤ (s.2 6) 28 ∧ (s.2 6) 28 ≤ 6) ∧ (0 ≤ (s.2 6) 29 ∧ (s.2 6) 29 ≤ 20) ∧ (0 ≤ (s.2 6) 26 ∧ (s.2 6) 26 ≤ 200000)) (x1 : Int) (f6 : Int → Int) (f7 : Int → Int) (f8 : Int → Int) (f9 : Int → Int) (k7 : Int) (k8 : Int) (k9 : Int) (k10 : Int) (k11 : Int) (k12 : Int) (k13 : Int) (k21 : Int) (hI : (k7 = s.1 7 ∧ k8 = s.1 8 ∧ k9 = s.1 9 ∧ k10 = s.1 10 ∧ k11 = s.1 11) ∧ (f6 = s.2 6 ∧ f7 = s.2 7 ∧ f8 = s.2 8 ∧ f9 = s.2 9 ∧ k21 = s.1 21) ∧ lnG (s.1 8) (s.1 11) (s.2 6 28) (s.2 6 29) k12 k13 (s.1 13) (s.1 9) x1) (c_1 : k12 = 0) (o_2 : (0 ≤ k7 ∧ k7 ≤ (s.1 6) ∧ (s.1 6) ≤ 800)) (c_4 : ¬ x1 = 0) (o_20 : (0 ≤ (4 : Int) ∧ (4 : Int) < 6)) (o_22 : (0 ≤ (enx (s.2 4) (s.1 6) k7) ∧ (enx (s.2 4) (s.1 6) k7) ≤ (s.1 6) ∧ (s.1 6) ≤ 800 ∧ ((if k12 = 0 ∧ (knd (s.2 4) (s.1 6) k7) = 1 then sortOf (wrd (s.2 4) (s.1 6) k7) else -1) = -1 ∨ (0 ≤ (i32 (4 * (i32 (24 + (f6 (24 + (4 : Int))))))) ∧ (i32 (4 * (i32 (24 + (f6 (24 + (4 : Int))))))) + 1 < 120)) ∧ (0 ≤ f6 24 ∧ f6 24 ≤ 100))) (f_23 : Int → Int) (k_24 : Int) (k_25 : Int) (k_26 : Int) (k_27 : Int) (k_28 : Int) (k_29 : Int) (k_30 : Int) (q_31 : (wordQ (s.2 4) (s.1 6) (f6 24) (enx (s.2 4) (s.1 6) k7) (knd (s.2 4) (s.1 6) k7) (plc (s.2 4) (s.1 6) k7) (vlu (s.2 4) (s.1 6) k7) (wrd (s.2 4) (s.1 6) k7) k12 k13 f8 k_24 k_25 k_26 k_27 k_28 k_29 k_30 f_23 (i32 (4 * (i32 (24 + (f6 (24 + (4 : Int))))))))) (c_33 : ¬ (bI (k_29 = 0)) = 0) (o_46 : (0 ≤ k_24 ∧ k_24 ≤ (s.1 6) ∧ (s.1 6) ≤ 800)) (k_47 : Int) (k_48 : Int) (k_49 : Int) (k_50 : Int) (k_51 : Int) (k_52 : Int) (k_53 : Int) (q_54 : (needQ (s.2 4) (s.1 6) (4797 : Int) k_24 k_25 k_26 k_27 k_28 k_29 k_30 k_47 k_48 k_49 k_50 k_51 k_52 k_53)) (c_56 : ¬ (bI (k_52 = 0)) = 0) (o_57 : (0 ≤ k_47 ∧ k_47 ≤ (s.1 6) ∧ (s.1 6) ≤ 800 ∧ ((if k_52 = 0 ∧ k_48 = 1 then sortOf k_51 else -1) = -1 ∨ (0 ≤ (i32 ((i32 (4 * (i32 (24 + (f6 (24 + (4 : Int))))))) + 2)) ∧ (i32 ((i32 (4 * (i32 (24 + (f6 (24 + (4 : Int))))))) + 2)) + 1 < 120)) ∧ (0 ≤ f6 24 ∧ f6 24 ≤ 100))) (f_58 : Int → Int) (k_59 : Int) (k_60 : Int) (k_61 : Int) (k_62 : Int) (k_63 : Int) (k_64 : Int) (k_65 : Int) (q_66 : (wordQ (s.2 4) (s.1 6) (f6 24) k_47 k_48 k_49 k_50 k_51 k_52 k_53 f_23 k_59 k_60 k_61 k_62 k_63 k_64 k_65 f_58 (i32 ((i32 (4 * (i32 (24 + (f6 (24 + (4 : Int))))))) + 2)))) : lnQ (s.2 4) (s.1 6) (lineP (s.2 4) (s.1 6) (rep (s.2 6) (s.2 7) (s.2 8) (s.2 9) (s.1 21))) (s.1 7) (s.1 8) (s.1 9) (s.1 10) (s.1 11) k_59 k_60 k_61 k_62 k_63 k_64 k_65 (rep (upI f6 28 (i32 ((f6 28) + 1))) f7 f_58 f9 k21) ∧ (∀ z, z < 24 → (upI f6 28 (i32 ((f6 28) + 1))) z = (s.2 6) z) ∧ (∀ z, z < 96 → f7 z = (s.2 7) z) ∧ (∀ z, z < 96 → f_58 z = (s.2 8) z) ∧ (∀ z, z < 80 → f9 z = (s.2 9) z) := by
  obtain ⟨p0, p1, p2, p3, p4, p5, p6, p7, p8⟩ := hp
  (try simp only [Int.add_zero, Int.reduceAdd, bI_0, bI_n, Classical.not_not, p3, true_and] at *)
  (try (have h2 := hI; clear hI; obtain ⟨⟨a1, a2, a3, a4, a5⟩, ⟨b1, b2, b3, b4, b5⟩, hJ⟩ := h2; subst a1 a2 a3 a4 a5 b1 b2 b3 b4 b5))
  (try (have h4 := hJ; obtain ⟨⟨d1, d2⟩, ⟨d3, d4⟩, hd⟩ := h4; clear hJ; subst d1 d2))
  (try simp only [Int.reduceEq, ↓reduceIte] at *)
  (try (have h3 := hJ; clear hJ; obtain ⟨hd, hg⟩ := h3))
  (try have g := hg.resolve_right (fun h => h.1 (by assumption)))
  (try have g := hg.resolve_left (fun h => absurd h.1 (by assumption)))
  (try (have c0 : k12 = 0 := c_1; subst c0))
  (try (have y := g.2.2.resolve_left (fun h => by omega); clear g hg; try clear o_22; try clear o_36; try clear o_57))
  (try (have y := g.2.2.resolve_right (fun h => by omega); clear g hg; try clear o_22; try clear o_36; try clear o_57))
  (try have ex := enx_b (t := s.2 4) p1)
  (try have q181 := q_18.1.1)
  (try have q311 := q_31.1.1)
  (try have q541 := q_54.1)
  (try have q661 := q_66.1.1)
  (try simp (disch := omega) only [i32_id] at *)
  (try unfold lex3)
  (try simp only [bI_0, bI_n, Classical.not_not] at *)
  (try simp (disch := omega) only [i32_id] at *)
  first | done | omega | ((repeat' (with_reducible apply And.intro)) <;> first | (show lnQ _ _ _ _ _ _ _ _ _ _ _ _ _ _ _ _; have hx : x1 = 0 := c_4; exact lnQ_n y.2.1 y.2.2 rfl q_18 (by rw [rep_h (i := 5) (by decide), rep_t (i := s.2 6 29) rfl]; rfl)) | (show lnQ _ _ _ _ _ _ _ _ _ _ _ _ _ _ _ _; have hx : ¬ x1 = 0 := c_4; exact lnQ_s1 y.2.1 y.2.2 q_31 (by assumption)) | (show lnQ _ _ _ _ _ _ _ _ _ _ _ _ _ _ _ _; have hx : ¬ x1 = 0 := c_4; exact lnQ_s2 y.2.1 y.2.2 q_31 (by assumption) q_54 (by assumption)) | (show lnQ _ _ _ _ _ _ _ _ _ _ _ _ _ _ _ _; have hx : ¬ x1 = 0 := c_4; exact lnQ_s3 y.2.1 y.2.2 q_31 (by assumption) q_54 (by assumption) q_66 (fun w v w2 v2 hx => by rw [rep_h (i := 4) (by decide), hx, rep_s (i := 4 * s.2 6 28 + 3) (by omega), rep_s (i := 4 * s.2 6 28 + 2) (by omega), rep_s (i := 4 * s.2 6 28 + 1) (by omega), rep_s (i := 4 * s.2 6 28) (by omega)]; rfl)) | (show lnQ _ _ _ _ _ _ _ _ _ _ _ _ _ _ _ _; exact lnQ_bad ⟨by omega, by omega⟩ hd g.2.2 g.2.1) | (exact lnG_a hd d3 (by assumption) (by assumption)) | (exact lnG_b hd d3 (by assumption) (by assumption)) | (exact lnG_c hd d4 (by assumption) (by assumption)) | (exact lnG_d hd d4 (by assumption) (by assumption) (by assumption)) | (exact lnG_e hd d3 d4 (by assumption) (by assumption)) | (exact lnG_x d3 d4 (by assumption) (by assumption)) | assumption | rfl | omega | (show lnQ _ _ _ _ _ _ _ _ _ _ _ _ _ _ _ _; exact lnQ_do q_16.1 (by omega) (by omega)) | (intro z hz; exact q_16.2.1 z (by omega)) | (exact q_16.2.2.1) | (intro z hz; rw [upI_n _ _ (by omega)]) | (intro z hz; rfl) | (intro z hz; rw [q_66.2.2.1 z (by omega) (by omega), q_31.2.2.1 z (by omega) (by omega)]) | (intro z hz; exact q_31.2.2.1 z (by omega) (by omega)) | grind [upI])
theorem vX3_line_67 (s : MS) (hp : 0 ≤ (s.1 7) ∧ (s.1 7) ≤ (s.1 6) ∧ (s.1 6) ≤ 800 ∧ (s.1 12) = 0 ∧ (0 ≤ (s.2 6) 24 ∧ (s.2 6) 24 ≤ 100) ∧ ((s.1 21) = 0 → (s.2 6) 27 = 0) ∧ (0 ≤ (s.2 6) 28 ∧ (s.2 6) 28 ≤ 6) ∧ (0 ≤ (s.2 6) 29 ∧ (s.2 6) 29 ≤ 20) ∧ (0 ≤ (s.2 6) 26 ∧ (s.2 6) 26 ≤ 200000)) (x1 : Int) (f6 : Int → Int) (f7 : Int → Int) (f8 : Int → Int) (f9 : Int → Int) (k7 : Int) (k8 : Int) (k9 : Int) (k10 : Int) (k11 : Int) (k12 : Int) (k13 : Int) (k21 : Int) (hI : (k7 = s.1 7 ∧ k8 = s.1 8 ∧ k9 = s.1 9 ∧ k10 = s.1 10 ∧ k11 = s.1 11) ∧ (f6 = s.2 6 ∧ f7 = s.2 7 ∧ f8 = s.2 8 ∧ f9 = s.2 9 ∧ k21 = s.1 21) ∧ lnG (s.1 8) (s.1 11) (s.2 6 28) (s.2 6 29) k12 k13 (s.1 13) (s.1 9) x1) (c_1 : ¬ k12 = 0) : lnQ (s.2 4) (s.1 6) (lineP (s.2 4) (s.1 6) (rep (s.2 6) (s.2 7) (s.2 8) (s.2 9) (s.1 21))) (s.1 7) (s.1 8) (s.1 9) (s.1 10) (s.1 11) k7 k8 k9 k10 k11 k12 k13 (rep f6 f7 f8 f9 k21) ∧ (∀ z, z < 24 → f6 z = (s.2 6) z) ∧ (∀ z, z < 96 → f7 z = (s.2 7) z) ∧ (∀ z, z < 96 → f8 z = (s.2 8) z) ∧ (∀ z, z < 80 → f9 z = (s.2 9) z) := by
  obtain ⟨p0, p1, p2, p3, p4, p5, p6, p7, p8⟩ := hp
  (try simp only [Int.add_zero, Int.reduceAdd, bI_0, bI_n, Classical.not_not, p3, true_and] at *)
  (try (have h2 := hI; clear hI; obtain ⟨⟨a1, a2, a3, a4, a5⟩, ⟨b1, b2, b3, b4, b5⟩, hJ⟩ := h2; subst a1 a2 a3 a4 a5 b1 b2 b3 b4 b5))
  (try (have h4 := hJ; obtain ⟨⟨d1, d2⟩, ⟨d3, d4⟩, hd⟩ := h4; clear hJ; subst d1 d2))
  (try simp only [Int.reduceEq, ↓reduceIte] at *)
  (try (have h3 := hJ; clear hJ; obtain ⟨hd, hg⟩ := h3))
  (try have g := hg.resolve_right (fun h => h.1 (by assumption)))
  (try have g := hg.resolve_left (fun h => absurd h.1 (by assumption)))
  (try (have c0 : k12 = 0 := c_1; subst c0))
  (try (have y := g.2.2.resolve_left (fun h => by omega); clear g hg; try clear o_22; try clear o_36; try clear o_57))
  (try (have y := g.2.2.resolve_right (fun h => by omega); clear g hg; try clear o_22; try clear o_36; try clear o_57))
  (try have ex := enx_b (t := s.2 4) p1)
  (try have q181 := q_18.1.1)
  (try have q311 := q_31.1.1)
  (try have q541 := q_54.1)
  (try have q661 := q_66.1.1)
  (try simp (disch := omega) only [i32_id] at *)
  (try unfold lex3)
  (try simp only [bI_0, bI_n, Classical.not_not] at *)
  (try simp (disch := omega) only [i32_id] at *)
  first | done | omega | ((repeat' (with_reducible apply And.intro)) <;> first | (show lnQ _ _ _ _ _ _ _ _ _ _ _ _ _ _ _ _; have hx : x1 = 0 := c_4; exact lnQ_n y.2.1 y.2.2 rfl q_18 (by rw [rep_h (i := 5) (by decide), rep_t (i := s.2 6 29) rfl]; rfl)) | (show lnQ _ _ _ _ _ _ _ _ _ _ _ _ _ _ _ _; have hx : ¬ x1 = 0 := c_4; exact lnQ_s1 y.2.1 y.2.2 q_31 (by assumption)) | (show lnQ _ _ _ _ _ _ _ _ _ _ _ _ _ _ _ _; have hx : ¬ x1 = 0 := c_4; exact lnQ_s2 y.2.1 y.2.2 q_31 (by assumption) q_54 (by assumption)) | (show lnQ _ _ _ _ _ _ _ _ _ _ _ _ _ _ _ _; have hx : ¬ x1 = 0 := c_4; exact lnQ_s3 y.2.1 y.2.2 q_31 (by assumption) q_54 (by assumption) q_66 (fun w v w2 v2 hx => by rw [rep_h (i := 4) (by decide), hx, rep_s (i := 4 * s.2 6 28 + 3) (by omega), rep_s (i := 4 * s.2 6 28 + 2) (by omega), rep_s (i := 4 * s.2 6 28 + 1) (by omega), rep_s (i := 4 * s.2 6 28) (by omega)]; rfl)) | (show lnQ _ _ _ _ _ _ _ _ _ _ _ _ _ _ _ _; exact lnQ_bad ⟨by omega, by omega⟩ hd g.2.2 g.2.1) | (exact lnG_a hd d3 (by assumption) (by assumption)) | (exact lnG_b hd d3 (by assumption) (by assumption)) | (exact lnG_c hd d4 (by assumption) (by assumption)) | (exact lnG_d hd d4 (by assumption) (by assumption) (by assumption)) | (exact lnG_e hd d3 d4 (by assumption) (by assumption)) | (exact lnG_x d3 d4 (by assumption) (by assumption)) | assumption | rfl | omega | (show lnQ _ _ _ _ _ _ _ _ _ _ _ _ _ _ _ _; exact lnQ_do q_16.1 (by omega) (by omega)) | (intro z hz; exact q_16.2.1 z (by omega)) | (exact q_16.2.2.1) | (intro z hz; rw [upI_n _ _ (by omega)]) | (intro z hz; rfl) | (intro z hz; rw [q_66.2.2.1 z (by omega) (by omega), q_31.2.2.1 z (by omega) (by omega)]) | (intro z hz; exact q_31.2.2.1 z (by omega) (by omega)) | grind [upI])
theorem vX3_line_68 (s : MS) (hp : 0 ≤ (s.1 7) ∧ (s.1 7) ≤ (s.1 6) ∧ (s.1 6) ≤ 800 ∧ (s.1 12) = 0 ∧ (0 ≤ (s.2 6) 24 ∧ (s.2 6) 24 ≤ 100) ∧ ((s.1 21) = 0 → (s.2 6) 27 = 0) ∧ (0 ≤ (s.2 6) 28 ∧ (s.2 6) 28 ≤ 6) ∧ (0 ≤ (s.2 6) 29 ∧ (s.2 6) 29 ≤ 20) ∧ (0 ≤ (s.2 6) 26 ∧ (s.2 6) 26 ≤ 200000)) (c_4 : (bI ((s.1 12) = 0 ∧ (s.1 8) = 1 ∧ (s.1 11) = (2427955 : Int))) = 0) : ((s.1 7) = s.1 7 ∧ (s.1 8) = s.1 8 ∧ (s.1 9) = s.1 9 ∧ (s.1 10) = s.1 10 ∧ (s.1 11) = s.1 11) ∧ ((s.2 6) = s.2 6 ∧ (s.2 7) = s.2 7 ∧ (s.2 8) = s.2 8 ∧ (s.2 9) = s.2 9 ∧ (s.1 21) = s.1 21) ∧ ((s.1 12) = 0 ∧ (s.1 13) = s.1 13) ∧ ((bI ((s.1 12) = 0 ∧ (s.1 8) = 1 ∧ (s.1 11) = (382984 : Int))) = bI (s.1 8 = 1 ∧ s.1 11 = 382984) ∧ (bI ((s.1 12) = 0 ∧ (s.1 8) = 1 ∧ (s.1 11) = (212302449 : Int))) = bI (s.1 8 = 1 ∧ s.1 11 = 212302449)) ∧ ¬ (s.1 8 = 1 ∧ s.1 11 = 2427955) := by
  obtain ⟨p0, p1, p2, p3, p4, p5, p6, p7, p8⟩ := hp
  (try simp only [Int.add_zero, Int.reduceAdd, bI_0, bI_n, Classical.not_not, p3, true_and] at *)
  (try (have h2 := hI; clear hI; obtain ⟨⟨a1, a2, a3, a4, a5⟩, ⟨b1, b2, b3, b4, b5⟩, hJ⟩ := h2; subst a1 a2 a3 a4 a5 b1 b2 b3 b4 b5))
  (try (have h4 := hJ; obtain ⟨⟨d1, d2⟩, ⟨d3, d4⟩, hd⟩ := h4; clear hJ; subst d1 d2))
  (try simp only [Int.reduceEq, ↓reduceIte] at *)
  (try (have h3 := hJ; clear hJ; obtain ⟨hd, hg⟩ := h3))
  (try have g := hg.resolve_right (fun h => h.1 (by assumption)))
  (try have g := hg.resolve_left (fun h => absurd h.1 (by assumption)))
  (try (have c0 : k12 = 0 := c_1; subst c0))
  (try (have y := g.2.2.resolve_left (fun h => by omega); clear g hg; try clear o_22; try clear o_36; try clear o_57))
  (try (have y := g.2.2.resolve_right (fun h => by omega); clear g hg; try clear o_22; try clear o_36; try clear o_57))
  (try have ex := enx_b (t := s.2 4) p1)
  (try have q181 := q_18.1.1)
  (try have q311 := q_31.1.1)
  (try have q541 := q_54.1)
  (try have q661 := q_66.1.1)
  (try simp (disch := omega) only [i32_id] at *)
  (try unfold lex3)
  (try simp only [bI_0, bI_n, Classical.not_not] at *)
  (try simp (disch := omega) only [i32_id] at *)
  first | done | omega | ((repeat' (with_reducible apply And.intro)) <;> first | (show lnQ _ _ _ _ _ _ _ _ _ _ _ _ _ _ _ _; have hx : x1 = 0 := c_4; exact lnQ_n y.2.1 y.2.2 rfl q_18 (by rw [rep_h (i := 5) (by decide), rep_t (i := s.2 6 29) rfl]; rfl)) | (show lnQ _ _ _ _ _ _ _ _ _ _ _ _ _ _ _ _; have hx : ¬ x1 = 0 := c_4; exact lnQ_s1 y.2.1 y.2.2 q_31 (by assumption)) | (show lnQ _ _ _ _ _ _ _ _ _ _ _ _ _ _ _ _; have hx : ¬ x1 = 0 := c_4; exact lnQ_s2 y.2.1 y.2.2 q_31 (by assumption) q_54 (by assumption)) | (show lnQ _ _ _ _ _ _ _ _ _ _ _ _ _ _ _ _; have hx : ¬ x1 = 0 := c_4; exact lnQ_s3 y.2.1 y.2.2 q_31 (by assumption) q_54 (by assumption) q_66 (fun w v w2 v2 hx => by rw [rep_h (i := 4) (by decide), hx, rep_s (i := 4 * s.2 6 28 + 3) (by omega), rep_s (i := 4 * s.2 6 28 + 2) (by omega), rep_s (i := 4 * s.2 6 28 + 1) (by omega), rep_s (i := 4 * s.2 6 28) (by omega)]; rfl)) | (show lnQ _ _ _ _ _ _ _ _ _ _ _ _ _ _ _ _; exact lnQ_bad ⟨by omega, by omega⟩ hd g.2.2 g.2.1) | (exact lnG_a hd d3 (by assumption) (by assumption)) | (exact lnG_b hd d3 (by assumption) (by assumption)) | (exact lnG_c hd d4 (by assumption) (by assumption)) | (exact lnG_d hd d4 (by assumption) (by assumption) (by assumption)) | (exact lnG_e hd d3 d4 (by assumption) (by assumption)) | (exact lnG_x d3 d4 (by assumption) (by assumption)) | assumption | rfl | omega | (show lnQ _ _ _ _ _ _ _ _ _ _ _ _ _ _ _ _; exact lnQ_do q_16.1 (by omega) (by omega)) | (intro z hz; exact q_16.2.1 z (by omega)) | (exact q_16.2.2.1) | (intro z hz; rw [upI_n _ _ (by omega)]) | (intro z hz; rfl) | (intro z hz; rw [q_66.2.2.1 z (by omega) (by omega), q_31.2.2.1 z (by omega) (by omega)]) | (intro z hz; exact q_31.2.2.1 z (by omega) (by omega)) | grind [upI])
theorem vX3_line_69 (s : MS) (hp : 0 ≤ (s.1 7) ∧ (s.1 7) ≤ (s.1 6) ∧ (s.1 6) ≤ 800 ∧ (s.1 12) = 0 ∧ (0 ≤ (s.2 6) 24 ∧ (s.2 6) 24 ≤ 100) ∧ ((s.1 21) = 0 → (s.2 6) 27 = 0) ∧ (0 ≤ (s.2 6) 28 ∧ (s.2 6) 28 ≤ 6) ∧ (0 ≤ (s.2 6) 29 ∧ (s.2 6) 29 ≤ 20) ∧ (0 ≤ (s.2 6) 26 ∧ (s.2 6) 26 ≤ 200000)) (c_4 : ¬ (bI ((s.1 12) = 0 ∧ (s.1 8) = 1 ∧ (s.1 11) = (2427955 : Int))) = 0) : (0 ≤ (s.1 7) ∧ (s.1 7) ≤ (s.1 6) ∧ (s.1 6) ≤ 800 ∧ (0 ≤ (s.2 6) 24 ∧ (s.2 6) 24 ≤ 100) ∧ ((s.1 21) = 0 → (s.2 6) 27 = 0)) := by
  obtain ⟨p0, p1, p2, p3, p4, p5, p6, p7, p8⟩ := hp
  (try simp only [Int.add_zero, Int.reduceAdd, bI_0, bI_n, Classical.not_not, p3, true_and] at *)
  (try (have h2 := hI; clear hI; obtain ⟨⟨a1, a2, a3, a4, a5⟩, ⟨b1, b2, b3, b4, b5⟩, hJ⟩ := h2; subst a1 a2 a3 a4 a5 b1 b2 b3 b4 b5))
  (try (have h4 := hJ; obtain ⟨⟨d1, d2⟩, ⟨d3, d4⟩, hd⟩ := h4; clear hJ; subst d1 d2))
  (try simp only [Int.reduceEq, ↓reduceIte] at *)
  (try (have h3 := hJ; clear hJ; obtain ⟨hd, hg⟩ := h3))
  (try have g := hg.resolve_right (fun h => h.1 (by assumption)))
  (try have g := hg.resolve_left (fun h => absurd h.1 (by assumption)))
  (try (have c0 : k12 = 0 := c_1; subst c0))
  (try (have y := g.2.2.resolve_left (fun h => by omega); clear g hg; try clear o_22; try clear o_36; try clear o_57))
  (try (have y := g.2.2.resolve_right (fun h => by omega); clear g hg; try clear o_22; try clear o_36; try clear o_57))
  (try have ex := enx_b (t := s.2 4) p1)
  (try have q181 := q_18.1.1)
  (try have q311 := q_31.1.1)
  (try have q541 := q_54.1)
  (try have q661 := q_66.1.1)
  (try simp (disch := omega) only [i32_id] at *)
  (try unfold lex3)
  (try simp only [bI_0, bI_n, Classical.not_not] at *)
  (try simp (disch := omega) only [i32_id] at *)
  first | done | omega | ((repeat' (with_reducible apply And.intro)) <;> first | (show lnQ _ _ _ _ _ _ _ _ _ _ _ _ _ _ _ _; have hx : x1 = 0 := c_4; exact lnQ_n y.2.1 y.2.2 rfl q_18 (by rw [rep_h (i := 5) (by decide), rep_t (i := s.2 6 29) rfl]; rfl)) | (show lnQ _ _ _ _ _ _ _ _ _ _ _ _ _ _ _ _; have hx : ¬ x1 = 0 := c_4; exact lnQ_s1 y.2.1 y.2.2 q_31 (by assumption)) | (show lnQ _ _ _ _ _ _ _ _ _ _ _ _ _ _ _ _; have hx : ¬ x1 = 0 := c_4; exact lnQ_s2 y.2.1 y.2.2 q_31 (by assumption) q_54 (by assumption)) | (show lnQ _ _ _ _ _ _ _ _ _ _ _ _ _ _ _ _; have hx : ¬ x1 = 0 := c_4; exact lnQ_s3 y.2.1 y.2.2 q_31 (by assumption) q_54 (by assumption) q_66 (fun w v w2 v2 hx => by rw [rep_h (i := 4) (by decide), hx, rep_s (i := 4 * s.2 6 28 + 3) (by omega), rep_s (i := 4 * s.2 6 28 + 2) (by omega), rep_s (i := 4 * s.2 6 28 + 1) (by omega), rep_s (i := 4 * s.2 6 28) (by omega)]; rfl)) | (show lnQ _ _ _ _ _ _ _ _ _ _ _ _ _ _ _ _; exact lnQ_bad ⟨by omega, by omega⟩ hd g.2.2 g.2.1) | (exact lnG_a hd d3 (by assumption) (by assumption)) | (exact lnG_b hd d3 (by assumption) (by assumption)) | (exact lnG_c hd d4 (by assumption) (by assumption)) | (exact lnG_d hd d4 (by assumption) (by assumption) (by assumption)) | (exact lnG_e hd d3 d4 (by assumption) (by assumption)) | (exact lnG_x d3 d4 (by assumption) (by assumption)) | assumption | rfl | omega | (show lnQ _ _ _ _ _ _ _ _ _ _ _ _ _ _ _ _; exact lnQ_do q_16.1 (by omega) (by omega)) | (intro z hz; exact q_16.2.1 z (by omega)) | (exact q_16.2.2.1) | (intro z hz; rw [upI_n _ _ (by omega)]) | (intro z hz; rfl) | (intro z hz; rw [q_66.2.2.1 z (by omega) (by omega), q_31.2.2.1 z (by omega) (by omega)]) | (intro z hz; exact q_31.2.2.1 z (by omega) (by omega)) | grind [upI])
theorem vX3_line_70 (s : MS) (hp : 0 ≤ (s.1 7) ∧ (s.1 7) ≤ (s.1 6) ∧ (s.1 6) ≤ 800 ∧ (s.1 12) = 0 ∧ (0 ≤ (s.2 6) 24 ∧ (s.2 6) 24 ≤ 100) ∧ ((s.1 21) = 0 → (s.2 6) 27 = 0) ∧ (0 ≤ (s.2 6) 28 ∧ (s.2 6) 28 ≤ 6) ∧ (0 ≤ (s.2 6) 29 ∧ (s.2 6) 29 ≤ 20) ∧ (0 ≤ (s.2 6) 26 ∧ (s.2 6) 26 ≤ 200000)) (c_4 : ¬ (bI ((s.1 12) = 0 ∧ (s.1 8) = 1 ∧ (s.1 11) = (2427955 : Int))) = 0) (o_5 : (0 ≤ (s.1 7) ∧ (s.1 7) ≤ (s.1 6) ∧ (s.1 6) ≤ 800 ∧ (0 ≤ (s.2 6) 24 ∧ (s.2 6) 24 ≤ 100) ∧ ((s.1 21) = 0 → (s.2 6) 27 = 0))) (f_6 : Int → Int) (f_7 : Int → Int) (k_8 : Int) (k_9 : Int) (k_10 : Int) (k_11 : Int) (k_12 : Int) (k_13 : Int) (k_14 : Int) (k_15 : Int) (q_16 : (doQ (s.2 4) (s.1 6) (rep (s.2 6) (s.2 7) (s.2 8) (s.2 9) (s.1 21)) (s.1 7) (s.1 8) (s.1 9) (s.1 10) (s.1 11) (s.1 12) (s.1 13) k_8 k_9 k_10 k_11 k_12 k_13 k_14 (rep f_6 f_7 (s.2 8) (s.2 9) k_15) ∧ (∀ z, z ≠ 27 → f_6 z = (s.2 6) z) ∧ (∀ z, z < 96 → f_7 z = (s.2 7) z) ∧ (0 ≤ f_6 27 ∧ f_6 27 ≤ 12 ∨ f_6 27 = (s.2 6) 27))) : lnQ (s.2 4) (s.1 6) (lineP (s.2 4) (s.1 6) (rep (s.2 6) (s.2 7) (s.2 8) (s.2 9) (s.1 21))) (s.1 7) (s.1 8) (s.1 9) (s.1 10) (s.1 11) k_8 k_9 k_10 k_11 k_12 k_13 k_14 (rep f_6 f_7 (s.2 8) (s.2 9) k_15) ∧ (∀ z, z < 24 → f_6 z = (s.2 6) z) ∧ (∀ z, z < 96 → f_7 z = (s.2 7) z) ∧ (∀ z, z < 96 → (s.2 8) z = (s.2 8) z) ∧ (∀ z, z < 80 → (s.2 9) z = (s.2 9) z) := by
  obtain ⟨p0, p1, p2, p3, p4, p5, p6, p7, p8⟩ := hp
  (try simp only [Int.add_zero, Int.reduceAdd, bI_0, bI_n, Classical.not_not, p3, true_and] at *)
  (try (have h2 := hI; clear hI; obtain ⟨⟨a1, a2, a3, a4, a5⟩, ⟨b1, b2, b3, b4, b5⟩, hJ⟩ := h2; subst a1 a2 a3 a4 a5 b1 b2 b3 b4 b5))
  (try (have h4 := hJ; obtain ⟨⟨d1, d2⟩, ⟨d3, d4⟩, hd⟩ := h4; clear hJ; subst d1 d2))
  (try simp only [Int.reduceEq, ↓reduceIte] at *)
  (try (have h3 := hJ; clear hJ; obtain ⟨hd, hg⟩ := h3))
  (try have g := hg.resolve_right (fun h => h.1 (by assumption)))
  (try have g := hg.resolve_left (fun h => absurd h.1 (by assumption)))
  (try (have c0 : k12 = 0 := c_1; subst c0))
  (try (have y := g.2.2.resolve_left (fun h => by omega); clear g hg; try clear o_22; try clear o_36; try clear o_57))
  (try (have y := g.2.2.resolve_right (fun h => by omega); clear g hg; try clear o_22; try clear o_36; try clear o_57))
  (try have ex := enx_b (t := s.2 4) p1)
  (try have q181 := q_18.1.1)
  (try have q311 := q_31.1.1)
  (try have q541 := q_54.1)
  (try have q661 := q_66.1.1)
  (try simp (disch := omega) only [i32_id] at *)
  (try unfold lex3)
  (try simp only [bI_0, bI_n, Classical.not_not] at *)
  (try simp (disch := omega) only [i32_id] at *)
  first | done | omega | ((repeat' (with_reducible apply And.intro)) <;> first | (show lnQ _ _ _ _ _ _ _ _ _ _ _ _ _ _ _ _; have hx : x1 = 0 := c_4; exact lnQ_n y.2.1 y.2.2 rfl q_18 (by rw [rep_h (i := 5) (by decide), rep_t (i := s.2 6 29) rfl]; rfl)) | (show lnQ _ _ _ _ _ _ _ _ _ _ _ _ _ _ _ _; have hx : ¬ x1 = 0 := c_4; exact lnQ_s1 y.2.1 y.2.2 q_31 (by assumption)) | (show lnQ _ _ _ _ _ _ _ _ _ _ _ _ _ _ _ _; have hx : ¬ x1 = 0 := c_4; exact lnQ_s2 y.2.1 y.2.2 q_31 (by assumption) q_54 (by assumption)) | (show lnQ _ _ _ _ _ _ _ _ _ _ _ _ _ _ _ _; have hx : ¬ x1 = 0 := c_4; exact lnQ_s3 y.2.1 y.2.2 q_31 (by assumption) q_54 (by assumption) q_66 (fun w v w2 v2 hx => by rw [rep_h (i := 4) (by decide), hx, rep_s (i := 4 * s.2 6 28 + 3) (by omega), rep_s (i := 4 * s.2 6 28 + 2) (by omega), rep_s (i := 4 * s.2 6 28 + 1) (by omega), rep_s (i := 4 * s.2 6 28) (by omega)]; rfl)) | (show lnQ _ _ _ _ _ _ _ _ _ _ _ _ _ _ _ _; exact lnQ_bad ⟨by omega, by omega⟩ hd g.2.2 g.2.1) | (exact lnG_a hd d3 (by assumption) (by assumption)) | (exact lnG_b hd d3 (by assumption) (by assumption)) | (exact lnG_c hd d4 (by assumption) (by assumption)) | (exact lnG_d hd d4 (by assumption) (by assumption) (by assumption)) | (exact lnG_e hd d3 d4 (by assumption) (by assumption)) | (exact lnG_x d3 d4 (by assumption) (by assumption)) | assumption | rfl | omega | (show lnQ _ _ _ _ _ _ _ _ _ _ _ _ _ _ _ _; exact lnQ_do q_16.1 (by omega) (by omega)) | (intro z hz; exact q_16.2.1 z (by omega)) | (exact q_16.2.2.1) | (intro z hz; rw [upI_n _ _ (by omega)]) | (intro z hz; rfl) | (intro z hz; rw [q_66.2.2.1 z (by omega) (by omega), q_31.2.2.1 z (by omega) (by omega)]) | (intro z hz; exact q_31.2.2.1 z (by omega) (by omega)) | grind [upI])
theorem allX3_line (b : AH) (s : MS) (hp : 0 ≤ (s.1 7) ∧ (s.1 7) ≤ (s.1 6) ∧ (s.1 6) ≤ 800 ∧ (s.1 12) = 0 ∧ (0 ≤ (s.2 6) 24 ∧ (s.2 6) 24 ≤ 100) ∧ ((s.1 21) = 0 → (s.2 6) 27 = 0) ∧ (0 ≤ (s.2 6) 28 ∧ (s.2 6) 28 ≤ 6) ∧ (0 ≤ (s.2 6) 29 ∧ (s.2 6) 29 ≤ 20) ∧ (0 ≤ (s.2 6) 26 ∧ (s.2 6) 26 ≤ 200000)) : ∀ m1 m2 m3 : Nat, (∀ (x1 : Int) (x2 : Int) (f6 : Int → Int) (f7 : Int → Int) (f8 : Int → Int) (f9 : Int → Int) (k7 : Int) (k8 : Int) (k9 : Int) (k10 : Int) (k11 : Int) (k12 : Int) (k13 : Int) (k21 : Int), m1 = 0 → m2 = 0 → m3 = 1 → ((k7 = s.1 7 ∧ k8 = s.1 8 ∧ k9 = s.1 9 ∧ k10 = s.1 10 ∧ k11 = s.1 11) ∧ (f6 = s.2 6 ∧ f7 = s.2 7 ∧ f8 = s.2 8 ∧ f9 = s.2 9 ∧ k21 = s.1 21) ∧ (k12 = 0 ∧ k13 = s.1 13) ∧ (x1 = bI (s.1 8 = 1 ∧ s.1 11 = 382984) ∧ x2 = bI (s.1 8 = 1 ∧ s.1 11 = 212302449)) ∧ ¬ (s.1 8 = 1 ∧ s.1 11 = 2427955)) → HX3_line_31 (QX3_line s) b s x1 x2 f6 f7 f8 f9 k7 k8 k9 k10 k11 k12 k13 k21) ∧ (∀ (x1 : Int) (f6 : Int → Int) (f7 : Int → Int) (f8 : Int → Int) (f9 : Int → Int) (k7 : Int) (k8 : Int) (k9 : Int) (k10 : Int) (k11 : Int) (k12 : Int) (k13 : Int) (k21 : Int), m1 = 0 → m2 = 0 → m3 = 0 → ((k7 = s.1 7 ∧ k8 = s.1 8 ∧ k9 = s.1 9 ∧ k10 = s.1 10 ∧ k11 = s.1 11) ∧ (f6 = s.2 6 ∧ f7 = s.2 7 ∧ f8 = s.2 8 ∧ f9 = s.2 9 ∧ k21 = s.1 21) ∧ lnG (s.1 8) (s.1 11) (s.2 6 28) (s.2 6 29) k12 k13 (s.1 13) (s.1 9) x1) → HX3_line_77 (QX3_line s) b s x1 f6 f7 f8 f9 k7 k8 k9 k10 k11 k12 k13 k21) := by
  refine lex3_ind ?_
  intro m1 m2 m3 ih
  refine ⟨?_, ?_⟩
  · rintro x1 x2 f6 f7 f8 f9 k7 k8 k9 k10 k11 k12 k13 k21 rfl rfl rfl hI
    refine bX3_line_31 b s x1 x2 f6 f7 f8 f9 k7 k8 k9 k10 k11 k12 k13 k21 ?_
    refine ⟨fun c_1 => ?_, fun c_1 => ?_⟩
    · refine ⟨fun c_2 => ?_, fun c_2 => ?_⟩
      · refine ⟨fun c_3 => ?_, fun c_3 => ?_⟩
        · exact (ih _ _ _ (vX3_line_2 s hp x1 x2 f6 f7 f8 f9 k7 k8 k9 k10 k11 k12 k13 k21 hI c_1 c_2 c_3)).2 x1 f6 f7 f8 f9 k7 k8 k9 k10 k11 k12 k13 k21 rfl rfl rfl (vX3_line_1 s hp x1 x2 f6 f7 f8 f9 k7 k8 k9 k10 k11 k12 k13 k21 hI c_1 c_2 c_3)
        · have o_4 : (0 ≤ (5 : Int) ∧ (5 : Int) < 6) := (vX3_line_3 s hp x1 x2 f6 f7 f8 f9 k7 k8 k9 k10 k11 k12 k13 k21 hI c_1 c_2 c_3)
          refine ⟨o_4, ?_⟩
          refine ⟨fun c_6 => ?_, fun c_6 => ?_⟩
          · exact (ih _ _ _ (vX3_line_5 s hp x1 x2 f6 f7 f8 f9 k7 k8 k9 k10 k11 k12 k13 k21 hI c_1 c_2 c_3 o_4 c_6)).2 x1 f6 f7 f8 f9 k7 k8 k9 k10 k11 k12 k13 k21 rfl rfl rfl (vX3_line_4 s hp x1 x2 f6 f7 f8 f9 k7 k8 k9 k10 k11 k12 k13 k21 hI c_1 c_2 c_3 o_4 c_6)
          · exact (ih _ _ _ (vX3_line_7 s hp x1 x2 f6 f7 f8 f9 k7 k8 k9 k10 k11 k12 k13 k21 hI c_1 c_2 c_3 o_4 c_6)).2 x1 f6 f7 f8 f9 k7 k8 k9 k10 k11 (if k12 = 0 then (3 : Int) else k12) (if k12 = 0 then k9 else k13) k21 rfl rfl rfl (vX3_line_6 s hp x1 x2 f6 f7 f8 f9 k7 k8 k9 k10 k11 k12 k13 k21 hI c_1 c_2 c_3 o_4 c_6)
      · have o_8 : (0 ≤ (4 : Int) ∧ (4 : Int) < 6) := (vX3_line_8 s hp x1 x2 f6 f7 f8 f9 k7 k8 k9 k10 k11 k12 k13 k21 hI c_1 c_2)
        refine ⟨o_8, ?_⟩
        refine ⟨fun c_10 => ?_, fun c_10 => ?_⟩
        · exact (ih _ _ _ (vX3_line_10 s hp x1 x2 f6 f7 f8 f9 k7 k8 k9 k10 k11 k12 k13 k21 hI c_1 c_2 o_8 c_10)).2 x1 f6 f7 f8 f9 k7 k8 k9 k10 k11 (if k12 = 0 then (3 : Int) else k12) (if k12 = 0 then k9 else k13) k21 rfl rfl rfl (vX3_line_9 s hp x1 x2 f6 f7 f8 f9 k7 k8 k9 k10 k11 k12 k13 k21 hI c_1 c_2 o_8 c_10)
        · refine ⟨fun c_12 => ?_, fun c_12 => ?_⟩
          · exact (ih _ _ _ (vX3_line_12 s hp x1 x2 f6 f7 f8 f9 k7 k8 k9 k10 k11 k12 k13 k21 hI c_1 c_2 o_8 c_10 c_12)).2 x1 f6 f7 f8 f9 k7 k8 k9 k10 k11 k12 k13 k21 rfl rfl rfl (vX3_line_11 s hp x1 x2 f6 f7 f8 f9 k7 k8 k9 k10 k11 k12 k13 k21 hI c_1 c_2 o_8 c_10 c_12)
          · have o_13 : (0 ≤ (5 : Int) ∧ (5 : Int) < 6) := (vX3_line_13 s hp x1 x2 f6 f7 f8 f9 k7 k8 k9 k10 k11 k12 k13 k21 hI c_1 c_2 o_8 c_10 c_12)
            refine ⟨o_13, ?_⟩
            refine ⟨fun c_15 => ?_, fun c_15 => ?_⟩
            · exact (ih _ _ _ (vX3_line_15 s hp x1 x2 f6 f7 f8 f9 k7 k8 k9 k10 k11 k12 k13 k21 hI c_1 c_2 o_8 c_10 c_12 o_13 c_15)).2 x1 f6 f7 f8 f9 k7 k8 k9 k10 k11 k12 k13 k21 rfl rfl rfl (vX3_line_14 s hp x1 x2 f6 f7 f8 f9 k7 k8 k9 k10 k11 k12 k13 k21 hI c_1 c_2 o_8 c_10 c_12 o_13 c_15)
            · exact (ih _ _ _ (vX3_line_17 s hp x1 x2 f6 f7 f8 f9 k7 k8 k9 k10 k11 k12 k13 k21 hI c_1 c_2 o_8 c_10 c_12 o_13 c_15)).2 x1 f6 f7 f8 f9 k7 k8 k9 k10 k11 (if k12 = 0 then (3 : Int) else k12) (if k12 = 0 then k9 else k13) k21 rfl rfl rfl (vX3_line_16 s hp x1 x2 f6 f7 f8 f9 k7 k8 k9 k10 k11 k12 k13 k21 hI c_1 c_2 o_8 c_10 c_12 o_13 c_15)
    · refine ⟨fun c_17 => ?_, fun c_17 => ?_⟩
      · refine ⟨fun c_18 => ?_, fun c_18 => ?_⟩
        · refine ⟨fun c_19 => ?_, fun c_19 => ?_⟩
          · exact (ih _ _ _ (vX3_line_19 s hp x1 x2 f6 f7 f8 f9 k7 k8 k9 k10 k11 k12 k13 k21 hI c_1 c_17 c_18 c_19)).2 x1 f6 f7 f8 f9 k7 k8 k9 k10 k11 k12 k13 k21 rfl rfl rfl (vX3_line_18 s hp x1 x2 f6 f7 f8 f9 k7 k8 k9 k10 k11 k12 k13 k21 hI c_1 c_17 c_18 c_19)
          · have o_20 : (0 ≤ (5 : Int) ∧ (5 : Int) < 6) := (vX3_line_20 s hp x1 x2 f6 f7 f8 f9 k7 k8 k9 k10 k11 k12 k13 k21 hI c_1 c_17 c_18 c_19)
            refine ⟨o_20, ?_⟩
            refine ⟨fun c_22 => ?_, fun c_22 => ?_⟩
            · exact (ih _ _ _ (vX3_line_22 s hp x1 x2 f6 f7 f8 f9 k7 k8 k9 k10 k11 k12 k13 k21 hI c_1 c_17 c_18 c_19 o_20 c_22)).2 x1 f6 f7 f8 f9 k7 k8 k9 k10 k11 k12 k13 k21 rfl rfl rfl (vX3_line_21 s hp x1 x2 f6 f7 f8 f9 k7 k8 k9 k10 k11 k12 k13 k21 hI c_1 c_17 c_18 c_19 o_20 c_22)
            · exact (ih _ _ _ (vX3_line_24 s hp x1 x2 f6 f7 f8 f9 k7 k8 k9 k10 k11 k12 k13 k21 hI c_1 c_17 c_18 c_19 o_20 c_22)).2 x1 f6 f7 f8 f9 k7 k8 k9 k10 k11 (if k12 = 0 then (3 : Int) else k12) (if k12 = 0 then k9 else k13) k21 rfl rfl rfl (vX3_line_23 s hp x1 x2 f6 f7 f8 f9 k7 k8 k9 k10 k11 k12 k13 k21 hI c_1 c_17 c_18 c_19 o_20 c_22)
        · have o_24 : (0 ≤ (4 : Int) ∧ (4 : Int) < 6) := (vX3_line_25 s hp x1 x2 f6 f7 f8 f9 k7 k8 k9 k10 k11 k12 k13 k21 hI c_1 c_17 c_18)
          refine ⟨o_24, ?_⟩
          refine ⟨fun c_26 => ?_, fun c_26 => ?_⟩
          · exact (ih _ _ _ (vX3_line_27 s hp x1 x2 f6 f7 f8 f9 k7 k8 k9 k10 k11 k12 k13 k21 hI c_1 c_17 c_18 o_24 c_26)).2 x1 f6 f7 f8 f9 k7 k8 k9 k10 k11 (if k12 = 0 then (3 : Int) else k12) (if k12 = 0 then k9 else k13) k21 rfl rfl rfl (vX3_line_26 s hp x1 x2 f6 f7 f8 f9 k7 k8 k9 k10 k11 k12 k13 k21 hI c_1 c_17 c_18 o_24 c_26)
          · refine ⟨fun c_28 => ?_, fun c_28 => ?_⟩
            · exact (ih _ _ _ (vX3_line_29 s hp x1 x2 f6 f7 f8 f9 k7 k8 k9 k10 k11 k12 k13 k21 hI c_1 c_17 c_18 o_24 c_26 c_28)).2 x1 f6 f7 f8 f9 k7 k8 k9 k10 k11 k12 k13 k21 rfl rfl rfl (vX3_line_28 s hp x1 x2 f6 f7 f8 f9 k7 k8 k9 k10 k11 k12 k13 k21 hI c_1 c_17 c_18 o_24 c_26 c_28)
            · have o_29 : (0 ≤ (5 : Int) ∧ (5 : Int) < 6) := (vX3_line_30 s hp x1 x2 f6 f7 f8 f9 k7 k8 k9 k10 k11 k12 k13 k21 hI c_1 c_17 c_18 o_24 c_26 c_28)
              refine ⟨o_29, ?_⟩
              refine ⟨fun c_31 => ?_, fun c_31 => ?_⟩
              · exact (ih _ _ _ (vX3_line_32 s hp x1 x2 f6 f7 f8 f9 k7 k8 k9 k10 k11 k12 k13 k21 hI c_1 c_17 c_18 o_24 c_26 c_28 o_29 c_31)).2 x1 f6 f7 f8 f9 k7 k8 k9 k10 k11 k12 k13 k21 rfl rfl rfl (vX3_line_31 s hp x1 x2 f6 f7 f8 f9 k7 k8 k9 k10 k11 k12 k13 k21 hI c_1 c_17 c_18 o_24 c_26 c_28 o_29 c_31)
              · exact (ih _ _ _ (vX3_line_34 s hp x1 x2 f6 f7 f8 f9 k7 k8 k9 k10 k11 k12 k13 k21 hI c_1 c_17 c_18 o_24 c_26 c_28 o_29 c_31)).2 x1 f6 f7 f8 f9 k7 k8 k9 k10 k11 (if k12 = 0 then (3 : Int) else k12) (if k12 = 0 then k9 else k13) k21 rfl rfl rfl (vX3_line_33 s hp x1 x2 f6 f7 f8 f9 k7 k8 k9 k10 k11 k12 k13 k21 hI c_1 c_17 c_18 o_24 c_26 c_28 o_29 c_31)
      · refine ⟨fun c_34 => ?_, fun c_34 => ?_⟩
        · refine ⟨fun c_35 => ?_, fun c_35 => ?_⟩
          · exact (ih _ _ _ (vX3_line_36 s hp x1 x2 f6 f7 f8 f9 k7 k8 k9 k10 k11 k12 k13 k21 hI c_1 c_17 c_34 c_35)).2 x1 f6 f7 f8 f9 k7 k8 k9 k10 k11 (if k12 = 0 then (1 : Int) else k12) (if k12 = 0 then k9 else k13) k21 rfl rfl rfl (vX3_line_35 s hp x1 x2 f6 f7 f8 f9 k7 k8 k9 k10 k11 k12 k13 k21 hI c_1 c_17 c_34 c_35)
          · have o_36 : (0 ≤ (5 : Int) ∧ (5 : Int) < 6) := (vX3_line_37 s hp x1 x2 f6 f7 f8 f9 k7 k8 k9 k10 k11 k12 k13 k21 hI c_1 c_17 c_34 c_35)
            refine ⟨o_36, ?_⟩
            refine ⟨fun c_38 => ?_, fun c_38 => ?_⟩
            · exact (ih _ _ _ (vX3_line_39 s hp x1 x2 f6 f7 f8 f9 k7 k8 k9 k10 k11 k12 k13 k21 hI c_1 c_17 c_34 c_35 o_36 c_38)).2 x1 f6 f7 f8 f9 k7 k8 k9 k10 k11 (if k12 = 0 then (1 : Int) else k12) (if k12 = 0 then k9 else k13) k21 rfl rfl rfl (vX3_line_38 s hp x1 x2 f6 f7 f8 f9 k7 k8 k9 k10 k11 k12 k13 k21 hI c_1 c_17 c_34 c_35 o_36 c_38)
            · exact (ih _ _ _ (vX3_line_41 s hp x1 x2 f6 f7 f8 f9 k7 k8 k9 k10 k11 k12 k13 k21 hI c_1 c_17 c_34 c_35 o_36 c_38)).2 x1 f6 f7 f8 f9 k7 k8 k9 k10 k11 (if (if k12 = 0 then (1 : Int) else k12) = 0 then (3 : Int) else (if k12 = 0 then (1 : Int) else k12)) (if (if k12 = 0 then (1 : Int) else k12) = 0 then k9 else (if k12 = 0 then k9 else k13)) k21 rfl rfl rfl (vX3_line_40 s hp x1 x2 f6 f7 f8 f9 k7 k8 k9 k10 k11 k12 k13 k21 hI c_1 c_17 c_34 c_35 o_36 c_38)
        · have o_40 : (0 ≤ (4 : Int) ∧ (4 : Int) < 6) := (vX3_line_42 s hp x1 x2 f6 f7 f8 f9 k7 k8 k9 k10 k11 k12 k13 k21 hI c_1 c_17 c_34)
          refine ⟨o_40, ?_⟩
          refine ⟨fun c_42 => ?_, fun c_42 => ?_⟩
          · exact (ih _ _ _ (vX3_line_44 s hp x1 x2 f6 f7 f8 f9 k7 k8 k9 k10 k11 k12 k13 k21 hI c_1 c_17 c_34 o_40 c_42)).2 x1 f6 f7 f8 f9 k7 k8 k9 k10 k11 (if (if k12 = 0 then (1 : Int) else k12) = 0 then (3 : Int) else (if k12 = 0 then (1 : Int) else k12)) (if (if k12 = 0 then (1 : Int) else k12) = 0 then k9 else (if k12 = 0 then k9 else k13)) k21 rfl rfl rfl (vX3_line_43 s hp x1 x2 f6 f7 f8 f9 k7 k8 k9 k10 k11 k12 k13 k21 hI c_1 c_17 c_34 o_40 c_42)
          · refine ⟨fun c_44 => ?_, fun c_44 => ?_⟩
            · exact (ih _ _ _ (vX3_line_46 s hp x1 x2 f6 f7 f8 f9 k7 k8 k9 k10 k11 k12 k13 k21 hI c_1 c_17 c_34 o_40 c_42 c_44)).2 x1 f6 f7 f8 f9 k7 k8 k9 k10 k11 (if k12 = 0 then (1 : Int) else k12) (if k12 = 0 then k9 else k13) k21 rfl rfl rfl (vX3_line_45 s hp x1 x2 f6 f7 f8 f9 k7 k8 k9 k10 k11 k12 k13 k21 hI c_1 c_17 c_34 o_40 c_42 c_44)
            · have o_45 : (0 ≤ (5 : Int) ∧ (5 : Int) < 6) := (vX3_line_47 s hp x1 x2 f6 f7 f8 f9 k7 k8 k9 k10 k11 k12 k13 k21 hI c_1 c_17 c_34 o_40 c_42 c_44)
              refine ⟨o_45, ?_⟩
              refine ⟨fun c_47 => ?_, fun c_47 => ?_⟩
              · exact (ih _ _ _ (vX3_line_49 s hp x1 x2 f6 f7 f8 f9 k7 k8 k9 k10 k11 k12 k13 k21 hI c_1 c_17 c_34 o_40 c_42 c_44 o_45 c_47)).2 x1 f6 f7 f8 f9 k7 k8 k9 k10 k11 (if k12 = 0 then (1 : Int) else k12) (if k12 = 0 then k9 else k13) k21 rfl rfl rfl (vX3_line_48 s hp x1 x2 f6 f7 f8 f9 k7 k8 k9 k10 k11 k12 k13 k21 hI c_1 c_17 c_34 o_40 c_42 c_44 o_45 c_47)
              · exact (ih _ _ _ (vX3_line_51 s hp x1 x2 f6 f7 f8 f9 k7 k8 k9 k10 k11 k12 k13 k21 hI c_1 c_17 c_34 o_40 c_42 c_44 o_45 c_47)).2 x1 f6 f7 f8 f9 k7 k8 k9 k10 k11 (if (if k12 = 0 then (1 : Int) else k12) = 0 then (3 : Int) else (if k12 = 0 then (1 : Int) else k12)) (if (if k12 = 0 then (1 : Int) else k12) = 0 then k9 else (if k12 = 0 then k9 else k13)) k21 rfl rfl rfl (vX3_line_50 s hp x1 x2 f6 f7 f8 f9 k7 k8 k9 k10 k11 k12 k13 k21 hI c_1 c_17 c_34 o_40 c_42 c_44 o_45 c_47)
  · rintro x1 f6 f7 f8 f9 k7 k8 k9 k10 k11 k12 k13 k21 rfl rfl rfl hI
    refine bX3_line_77 b s x1 f6 f7 f8 f9 k7 k8 k9 k10 k11 k12 k13 k21 ?_
    refine ⟨fun c_1 => ?_, fun c_1 => ?_⟩
    · have o_2 : (0 ≤ k7 ∧ k7 ≤ (s.1 6) ∧ (s.1 6) ≤ 800) := (vX3_line_52 s hp x1 f6 f7 f8 f9 k7 k8 k9 k10 k11 k12 k13 k21 hI c_1)
      refine ⟨o_2, ?_⟩
      refine ⟨fun c_4 => ?_, fun c_4 => ?_⟩
      · have o_5 : (0 ≤ (5 : Int) ∧ (5 : Int) < 6) := (vX3_line_53 s hp x1 f6 f7 f8 f9 k7 k8 k9 k10 k11 k12 k13 k21 hI c_1 o_2 c_4)
        refine ⟨o_5, ?_⟩
        have o_7 : (0 ≤ (2 : Int) ∧ (2 : Int) < 6) := (vX3_line_54 s hp x1 f6 f7 f8 f9 k7 k8 k9 k10 k11 k12 k13 k21 hI c_1 o_2 c_4 o_5)
        refine ⟨o_7, ?_⟩
        have o_9 : (0 ≤ (enx (s.2 4) (s.1 6) k7) ∧ (enx (s.2 4) (s.1 6) k7) ≤ (s.1 6) ∧ (s.1 6) ≤ 800) := (vX3_line_55 s hp x1 f6 f7 f8 f9 k7 k8 k9 k10 k11 k12 k13 k21 hI c_1 o_2 c_4 o_5 o_7)
        refine ⟨o_9, ?_⟩
        intro k_10 k_11 k_12 k_13 k_14 k_15 k_16 r_17 q_18
        have o_19 : (0 ≤ (i32 (80 + (f6 (24 + (5 : Int))))) ∧ (i32 (80 + (f6 (24 + (5 : Int))))) < 100) := (vX3_line_56 s hp x1 f6 f7 f8 f9 k7 k8 k9 k10 k11 k12 k13 k21 hI c_1 o_2 c_4 o_5 o_7 o_9 k_10 k_11 k_12 k_13 k_14 k_15 k_16 r_17 q_18)
        refine ⟨o_19, ?_⟩
        exact ⟨(upI f6 29 (i32 ((f6 29) + 1))), f7, f8, (upI f9 (i32 (80 + (f6 (24 + (5 : Int))))) r_17), k_10, k_11, k_12, k_13, k_14, k_15, k_16, k21, rfl, rfl, (vX3_line_57 s hp x1 f6 f7 f8 f9 k7 k8 k9 k10 k11 k12 k13 k21 hI c_1 o_2 c_4 o_5 o_7 o_9 k_10 k_11 k_12 k_13 k_14 k_15 k_16 r_17 q_18 o_19)⟩
      · have o_20 : (0 ≤ (4 : Int) ∧ (4 : Int) < 6) := (vX3_line_58 s hp x1 f6 f7 f8 f9 k7 k8 k9 k10 k11 k12 k13 k21 hI c_1 o_2 c_4)
        refine ⟨o_20, ?_⟩
        have o_22 : (0 ≤ (enx (s.2 4) (s.1 6) k7) ∧ (enx (s.2 4) (s.1 6) k7) ≤ (s.1 6) ∧ (s.1 6) ≤ 800 ∧ ((if k12 = 0 ∧ (knd (s.2 4) (s.1 6) k7) = 1 then sortOf (wrd (s.2 4) (s.1 6) k7) else -1) = -1 ∨ (0 ≤ (i32 (4 * (i32 (24 + (f6 (24 + (4 : Int))))))) ∧ (i32 (4 * (i32 (24 + (f6 (24 + (4 : Int))))))) + 1 < 120)) ∧ (0 ≤ f6 24 ∧ f6 24 ≤ 100)) := (vX3_line_59 s hp x1 f6 f7 f8 f9 k7 k8 k9 k10 k11 k12 k13 k21 hI c_1 o_2 c_4 o_20)
        refine ⟨o_22, ?_⟩
        intro f_23 k_24 k_25 k_26 k_27 k_28 k_29 k_30 q_31
        refine ⟨fun c_33 => ?_, fun c_33 => ?_⟩
        · refine ⟨fun c_35 => ?_, fun c_35 => ?_⟩
          · exact ⟨(upI f6 28 (i32 ((f6 28) + 1))), f7, f_23, f9, k_24, k_25, k_26, k_27, k_28, k_29, k_30, k21, rfl, rfl, (vX3_line_60 s hp x1 f6 f7 f8 f9 k7 k8 k9 k10 k11 k12 k13 k21 hI c_1 o_2 c_4 o_20 o_22 f_23 k_24 k_25 k_26 k_27 k_28 k_29 k_30 q_31 c_33 c_35)⟩
          · have o_36 : (0 ≤ k_24 ∧ k_24 ≤ (s.1 6) ∧ (s.1 6) ≤ 800 ∧ ((if k_29 = 0 ∧ k_25 = 1 then sortOf k_28 else -1) = -1 ∨ (0 ≤ (i32 ((i32 (4 * (i32 (24 + (f6 (24 + (4 : Int))))))) + 2)) ∧ (i32 ((i32 (4 * (i32 (24 + (f6 (24 + (4 : Int))))))) + 2)) + 1 < 120)) ∧ (0 ≤ f6 24 ∧ f6 24 ≤ 100)) := (vX3_line_61 s hp x1 f6 f7 f8 f9 k7 k8 k9 k10 k11 k12 k13 k21 hI c_1 o_2 c_4 o_20 o_22 f_23 k_24 k_25 k_26 k_27 k_28 k_29 k_30 q_31 c_33 c_35)
            refine ⟨o_36, ?_⟩
            intro f_37 k_38 k_39 k_40 k_41 k_42 k_43 k_44 q_45
            exact ⟨(upI f6 28 (i32 ((f6 28) + 1))), f7, f_37, f9, k_38, k_39, k_40, k_41, k_42, k_43, k_44, k21, rfl, rfl, (vX3_line_62 s hp x1 f6 f7 f8 f9 k7 k8 k9 k10 k11 k12 k13 k21 hI c_1 o_2 c_4 o_20 o_22 f_23 k_24 k_25 k_26 k_27 k_28 k_29 k_30 q_31 c_33 c_35 o_36 f_37 k_38 k_39 k_40 k_41 k_42 k_43 k_44 q_45)⟩
        · have o_46 : (0 ≤ k_24 ∧ k_24 ≤ (s.1 6) ∧ (s.1 6) ≤ 800) := (vX3_line_63 s hp x1 f6 f7 f8 f9 k7 k8 k9 k10 k11 k12 k13 k21 hI c_1 o_2 c_4 o_20 o_22 f_23 k_24 k_25 k_26 k_27 k_28 k_29 k_30 q_31 c_33)
          refine ⟨o_46, ?_⟩
          intro k_47 k_48 k_49 k_50 k_51 k_52 k_53 q_54
          refine ⟨fun c_56 => ?_, fun c_56 => ?_⟩
          · exact ⟨(upI f6 28 (i32 ((f6 28) + 1))), f7, f_23, f9, k_47, k_48, k_49, k_50, k_51, k_52, k_53, k21, rfl, rfl, (vX3_line_64 s hp x1 f6 f7 f8 f9 k7 k8 k9 k10 k11 k12 k13 k21 hI c_1 o_2 c_4 o_20 o_22 f_23 k_24 k_25 k_26 k_27 k_28 k_29 k_30 q_31 c_33 o_46 k_47 k_48 k_49 k_50 k_51 k_52 k_53 q_54 c_56)⟩
          · have o_57 : (0 ≤ k_47 ∧ k_47 ≤ (s.1 6) ∧ (s.1 6) ≤ 800 ∧ ((if k_52 = 0 ∧ k_48 = 1 then sortOf k_51 else -1) = -1 ∨ (0 ≤ (i32 ((i32 (4 * (i32 (24 + (f6 (24 + (4 : Int))))))) + 2)) ∧ (i32 ((i32 (4 * (i32 (24 + (f6 (24 + (4 : Int))))))) + 2)) + 1 < 120)) ∧ (0 ≤ f6 24 ∧ f6 24 ≤ 100)) := (vX3_line_65 s hp x1 f6 f7 f8 f9 k7 k8 k9 k10 k11 k12 k13 k21 hI c_1 o_2 c_4 o_20 o_22 f_23 k_24 k_25 k_26 k_27 k_28 k_29 k_30 q_31 c_33 o_46 k_47 k_48 k_49 k_50 k_51 k_52 k_53 q_54 c_56)
            refine ⟨o_57, ?_⟩
            intro f_58 k_59 k_60 k_61 k_62 k_63 k_64 k_65 q_66
            exact ⟨(upI f6 28 (i32 ((f6 28) + 1))), f7, f_58, f9, k_59, k_60, k_61, k_62, k_63, k_64, k_65, k21, rfl, rfl, (vX3_line_66 s hp x1 f6 f7 f8 f9 k7 k8 k9 k10 k11 k12 k13 k21 hI c_1 o_2 c_4 o_20 o_22 f_23 k_24 k_25 k_26 k_27 k_28 k_29 k_30 q_31 c_33 o_46 k_47 k_48 k_49 k_50 k_51 k_52 k_53 q_54 c_56 o_57 f_58 k_59 k_60 k_61 k_62 k_63 k_64 k_65 q_66)⟩
    · exact ⟨f6, f7, f8, f9, k7, k8, k9, k10, k11, k12, k13, k21, rfl, rfl, (vX3_line_67 s hp x1 f6 f7 f8 f9 k7 k8 k9 k10 k11 k12 k13 k21 hI c_1)⟩
theorem ctX3_line (b : AH) (s : MS) (hp : 0 ≤ (s.1 7) ∧ (s.1 7) ≤ (s.1 6) ∧ (s.1 6) ≤ 800 ∧ (s.1 12) = 0 ∧ (0 ≤ (s.2 6) 24 ∧ (s.2 6) 24 ≤ 100) ∧ ((s.1 21) = 0 → (s.2 6) 27 = 0) ∧ (0 ≤ (s.2 6) 28 ∧ (s.2 6) 28 ≤ 6) ∧ (0 ≤ (s.2 6) 29 ∧ (s.2 6) 29 ≤ 20) ∧ (0 ≤ (s.2 6) 26 ∧ (s.2 6) 26 ≤ 200000)) : MC mX3_line 7 b s [] (QX3_line s) := by
  refine MC.of (by decide) rfl (Nat.le_of_ble_eq_true rfl) (JW.steq (s2 := sS (sS (sS (sS (sS (sS (sS (sS (sA (sA (sA (sA s 6 (s.2 6)) 7 (s.2 7)) 8 (s.2 8)) 9 (s.2 9)) 7 (s.1 7)) 8 (s.1 8)) 9 (s.1 9)) 10 (s.1 10)) 11 (s.1 11)) 12 (s.1 12)) 13 (s.1 13)) 21 (s.1 21)) (by simp only [sA_id, sS_id]) ?_)
  refine bX3_line_0 b s (s.2 6) (s.2 7) (s.2 8) (s.2 9) (s.1 7) (s.1 8) (s.1 9) (s.1 10) (s.1 11) (s.1 12) (s.1 13) (s.1 21) ?_
  refine ⟨fun c_4 => ?_, fun c_4 => ?_⟩
  · exact (allX3_line b s hp _ _ _).1 (bI ((s.1 12) = 0 ∧ (s.1 8) = 1 ∧ (s.1 11) = (382984 : Int))) (bI ((s.1 12) = 0 ∧ (s.1 8) = 1 ∧ (s.1 11) = (212302449 : Int))) (s.2 6) (s.2 7) (s.2 8) (s.2 9) (s.1 7) (s.1 8) (s.1 9) (s.1 10) (s.1 11) (s.1 12) (s.1 13) (s.1 21) rfl rfl rfl (vX3_line_68 s hp c_4)
  · have o_5 : (0 ≤ (s.1 7) ∧ (s.1 7) ≤ (s.1 6) ∧ (s.1 6) ≤ 800 ∧ (0 ≤ (s.2 6) 24 ∧ (s.2 6) 24 ≤ 100) ∧ ((s.1 21) = 0 → (s.2 6) 27 = 0)) := (vX3_line_69 s hp c_4)
    refine ⟨o_5, ?_⟩
    intro f_6 f_7 k_8 k_9 k_10 k_11 k_12 k_13 k_14 k_15 q_16
    exact ⟨f_6, f_7, (s.2 8), (s.2 9), k_8, k_9, k_10, k_11, k_12, k_13, k_14, k_15, rfl, rfl, (vX3_line_70 s hp c_4 o_5 f_6 f_7 k_8 k_9 k_10 k_11 k_12 k_13 k_14 k_15 q_16)⟩
