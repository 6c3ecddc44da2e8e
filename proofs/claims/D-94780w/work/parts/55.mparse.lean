/-! contracts of the reference: wordTo@7 wordTo@8 -/
set_option maxRecDepth 100000
def HX3_wordTo_7_0 (Q : Option AV → MS → Prop) (b : AH) (s : MS) (x2 : Int) (f7 : Int → Int) (k7 : Int) (k8 : Int) (k9 : Int) (k10 : Int) (k11 : Int) (k12 : Int) (k13 : Int) : Prop := MW mX3_wordTo 5 Q b 0 [(0, vR 351), (1, vR 359), (2, vI x2)] [] (sS (sS (sS (sS (sS (sS (sS (sA s 7 f7) 7 k7) 8 k8) 9 k9) 10 k10) 11 k11) 12 k12) 13 k13)
theorem bX3_wordTo_7_0 {Q : Option AV → MS → Prop} (b : AH) (s : MS) (x2 : Int) (f7 : Int → Int) (k7 : Int) (k8 : Int) (k9 : Int) (k10 : Int) (k11 : Int) (k12 : Int) (k13 : Int) (K : (¬ (if k12 = 0 ∧ k8 = 1 then sortOf k11 else -1) = (-1) → (k12 = 0 → (0 ≤ k7 ∧ k7 ≤ (s.1 6) ∧ (s.1 6) ≤ 800) ∧ ((0 ≤ x2 ∧ x2 < 120) ∧ ((¬ (if k12 = 0 ∧ k8 = 1 then sortOf k11 else -1) = 14 → ((if k12 = 0 ∧ k8 = 1 then sortOf k11 else -1) < 12 → (0 ≤ (i32 (x2 + 1)) ∧ (i32 (x2 + 1)) < 120) ∧ (Q none (sS (sS (sS (sS (sS (sS (sS (sA s 7 (upI (upI f7 x2 (if k12 = 0 ∧ k8 = 1 then sortOf k11 else -1)) (i32 (x2 + 1)) (-1))) 7 (enx (s.2 4) (s.1 6) k7)) 8 (knd (s.2 4) (s.1 6) k7)) 9 (plc (s.2 4) (s.1 6) k7)) 10 (vlu (s.2 4) (s.1 6) k7)) 11 (wrd (s.2 4) (s.1 6) k7)) 12 k12) 13 k13))) ∧ (¬ (if k12 = 0 ∧ k8 = 1 then sortOf k11 else -1) < 12 → (0 ≤ (enx (s.2 4) (s.1 6) k7) ∧ (enx (s.2 4) (s.1 6) k7) ≤ (s.1 6) ∧ (s.1 6) ≤ 800) ∧ ((∀ (k_11 : Int) (k_12 : Int) (k_13 : Int) (k_14 : Int) (k_15 : Int) (k_16 : Int) (k_17 : Int) (r_18 : Int), (numQ (s.2 4) (s.1 6) (0 : Int) (99 : Int) (enx (s.2 4) (s.1 6) k7) (knd (s.2 4) (s.1 6) k7) (plc (s.2 4) (s.1 6) k7) (vlu (s.2 4) (s.1 6) k7) (wrd (s.2 4) (s.1 6) k7) k12 k13 k_11 k_12 k_13 k_14 k_15 k_16 k_17 r_18) → (0 ≤ (i32 (x2 + 1)) ∧ (i32 (x2 + 1)) < 120) ∧ (Q none (sS (sS (sS (sS (sS (sS (sS (sA s 7 (upI (upI f7 x2 (if k12 = 0 ∧ k8 = 1 then sortOf k11 else -1)) (i32 (x2 + 1)) r_18)) 7 k_11) 8 k_12) 9 k_13) 10 k_14) 11 k_15) 12 k_16) 13 k_17)))))) ∧ ((if k12 = 0 ∧ k8 = 1 then sortOf k11 else -1) = 14 → (0 ≤ (0 : Int) ∧ (0 : Int) < 6) ∧ ((0 ≤ (enx (s.2 4) (s.1 6) k7) ∧ (enx (s.2 4) (s.1 6) k7) ≤ (s.1 6) ∧ (s.1 6) ≤ 800) ∧ ((∀ (k_24 : Int) (k_25 : Int) (k_26 : Int) (k_27 : Int) (k_28 : Int) (k_29 : Int) (k_30 : Int) (r_31 : Int), (numQ (s.2 4) (s.1 6) (0 : Int) (i32 (((s.2 6) (24 + (0 : Int))) - 1)) (enx (s.2 4) (s.1 6) k7) (knd (s.2 4) (s.1 6) k7) (plc (s.2 4) (s.1 6) k7) (vlu (s.2 4) (s.1 6) k7) (wrd (s.2 4) (s.1 6) k7) k12 k13 k_24 k_25 k_26 k_27 k_28 k_29 k_30 r_31) → (0 ≤ (i32 (x2 + 1)) ∧ (i32 (x2 + 1)) < 120) ∧ (Q none (sS (sS (sS (sS (sS (sS (sS (sA s 7 (upI (upI f7 x2 (if k12 = 0 ∧ k8 = 1 then sortOf k11 else -1)) (i32 (x2 + 1)) r_31)) 7 k_24) 8 k_25) 9 k_26) 10 k_27) 11 k_28) 12 k_29) 13 k_30))))))))) ∧ (¬ k12 = 0 → Q none (sS (sS (sS (sS (sS (sS (sS (sA s 7 f7) 7 k7) 8 k8) 9 k9) 10 k10) 11 k11) 12 k12) 13 k13))) ∧ ((if k12 = 0 ∧ k8 = 1 then sortOf k11 else -1) = (-1) → ((if k12 = 0 then (1 : Int) else k12) = 0 → (0 ≤ k7 ∧ k7 ≤ (s.1 6) ∧ (s.1 6) ≤ 800) ∧ ((0 ≤ x2 ∧ x2 < 120) ∧ ((¬ (if k12 = 0 ∧ k8 = 1 then sortOf k11 else -1) = 14 → ((if k12 = 0 ∧ k8 = 1 then sortOf k11 else -1) < 12 → (0 ≤ (i32 (x2 + 1)) ∧ (i32 (x2 + 1)) < 120) ∧ (Q none (sS (sS (sS (sS (sS (sS (sS (sA s 7 (upI (upI f7 x2 (if k12 = 0 ∧ k8 = 1 then sortOf k11 else -1)) (i32 (x2 + 1)) (-1))) 7 (enx (s.2 4) (s.1 6) k7)) 8 (knd (s.2 4) (s.1 6) k7)) 9 (plc (s.2 4) (s.1 6) k7)) 10 (vlu (s.2 4) (s.1 6) k7)) 11 (wrd (s.2 4) (s.1 6) k7)) 12 (if k12 = 0 then (1 : Int) else k12)) 13 (if k12 = 0 then k9 else k13)))) ∧ (¬ (if k12 = 0 ∧ k8 = 1 then sortOf k11 else -1) < 12 → (0 ≤ (enx (s.2 4) (s.1 6) k7) ∧ (enx (s.2 4) (s.1 6) k7) ≤ (s.1 6) ∧ (s.1 6) ≤ 800) ∧ ((∀ (k_43 : Int) (k_44 : Int) (k_45 : Int) (k_46 : Int) (k_47 : Int) (k_48 : Int) (k_49 : Int) (r_50 : Int), (numQ (s.2 4) (s.1 6) (0 : Int) (99 : Int) (enx (s.2 4) (s.1 6) k7) (knd (s.2 4) (s.1 6) k7) (plc (s.2 4) (s.1 6) k7) (vlu (s.2 4) (s.1 6) k7) (wrd (s.2 4) (s.1 6) k7) (if k12 = 0 then (1 : Int) else k12) (if k12 = 0 then k9 else k13) k_43 k_44 k_45 k_46 k_47 k_48 k_49 r_50) → (0 ≤ (i32 (x2 + 1)) ∧ (i32 (x2 + 1)) < 120) ∧ (Q none (sS (sS (sS (sS (sS (sS (sS (sA s 7 (upI (upI f7 x2 (if k12 = 0 ∧ k8 = 1 then sortOf k11 else -1)) (i32 (x2 + 1)) r_50)) 7 k_43) 8 k_44) 9 k_45) 10 k_46) 11 k_47) 12 k_48) 13 k_49)))))) ∧ ((if k12 = 0 ∧ k8 = 1 then sortOf k11 else -1) = 14 → (0 ≤ (0 : Int) ∧ (0 : Int) < 6) ∧ ((0 ≤ (enx (s.2 4) (s.1 6) k7) ∧ (enx (s.2 4) (s.1 6) k7) ≤ (s.1 6) ∧ (s.1 6) ≤ 800) ∧ ((∀ (k_56 : Int) (k_57 : Int) (k_58 : Int) (k_59 : Int) (k_60 : Int) (k_61 : Int) (k_62 : Int) (r_63 : Int), (numQ (s.2 4) (s.1 6) (0 : Int) (i32 (((s.2 6) (24 + (0 : Int))) - 1)) (enx (s.2 4) (s.1 6) k7) (knd (s.2 4) (s.1 6) k7) (plc (s.2 4) (s.1 6) k7) (vlu (s.2 4) (s.1 6) k7) (wrd (s.2 4) (s.1 6) k7) (if k12 = 0 then (1 : Int) else k12) (if k12 = 0 then k9 else k13) k_56 k_57 k_58 k_59 k_60 k_61 k_62 r_63) → (0 ≤ (i32 (x2 + 1)) ∧ (i32 (x2 + 1)) < 120) ∧ (Q none (sS (sS (sS (sS (sS (sS (sS (sA s 7 (upI (upI f7 x2 (if k12 = 0 ∧ k8 = 1 then sortOf k11 else -1)) (i32 (x2 + 1)) r_63)) 7 k_56) 8 k_57) 9 k_58) 10 k_59) 11 k_60) 12 k_61) 13 k_62))))))))) ∧ (¬ (if k12 = 0 then (1 : Int) else k12) = 0 → Q none (sS (sS (sS (sS (sS (sS (sS (sA s 7 f7) 7 k7) 8 k8) 9 k9) 10 k10) 11 k11) 12 (if k12 = 0 then (1 : Int) else k12)) 13 (if k12 = 0 then k9 else k13))))) : HX3_wordTo_7_0 Q b s x2 f7 k7 k8 k9 k10 k11 k12 k13 := by
  refine JW.aload_n dX3_wordTo_0 rfl ?_
  refine JW.mcall (As := []) dX3_wordTo_1 vX3_sortHere rfl q1741 (ctX3_sortHere b (sS (sS (sS (sS (sS (sS (sS (sA s 7 f7) 7 k7) 8 k8) 9 k9) 10 k10) 11 k11) 12 k12) 13 k13)) (Nat.le_of_ble_eq_true rfl) rfl (Nat.le_of_ble_eq_true rfl) ?_
  rintro _ _ ⟨rfl, eq_1⟩
  refine JW.steq (s2 := sS (sS (sS (sS (sS (sS (sS (sA s 7 f7) 7 k7) 8 k8) 9 k9) 10 k10) 11 k11) 12 k12) 13 k13) eq_1 ?_
  refine JW.istore_n (ls' := [(0, vR 351), (1, vR 359), (2, vI x2), (3, vI (if k12 = 0 ∧ k8 = 1 then sortOf k11 else -1))]) dX3_wordTo_4 (Nat.le_of_ble_eq_true rfl) rfl ?_
  refine JW.iload_n dX3_wordTo_5 rfl ?_
  refine JW.iconst dX3_wordTo_6 rfl ?_
  refine JW.icmp_ne (tgt := 15) dX3_wordTo_7 rfl (fun c_2 => ?_) (fun c_2 => ?_)
  · have K := K.1 c_2
    refine JW.aload_n dX3_wordTo_15 rfl ?_
    refine JW.mget (v := vI k12) dX3_wordTo_16 fX3_129 rfl ?_
    refine JW.if_eq (tgt := 23) dX3_wordTo_19 rfl (fun c_3 => ?_) (fun c_3 => ?_)
    · have K := K.1 c_3
      refine JW.aload_n dX3_wordTo_23 rfl ?_
      obtain ⟨o_4, K⟩ := K
      refine JW.mcall (As := []) dX3_wordTo_24 vX3_next rfl q1674 (ctX3_next b (sS (sS (sS (sS (sS (sS (sS (sA s 7 f7) 7 k7) 8 k8) 9 k9) 10 k10) 11 k11) 12 k12) 13 k13) o_4) (Nat.le_of_ble_eq_true rfl) rfl (Nat.le_of_ble_eq_true rfl) ?_
      rintro _ _ ⟨rfl, rfl⟩
      refine JW.steq (s2 := sS (sS (sS (sS (sS (sS (sS (sA s 7 f7) 7 (enx (s.2 4) (s.1 6) k7)) 8 (knd (s.2 4) (s.1 6) k7)) 9 (plc (s.2 4) (s.1 6) k7)) 10 (vlu (s.2 4) (s.1 6) k7)) 11 (wrd (s.2 4) (s.1 6) k7)) 12 k12) 13 k13) (by simp only [sA_A, sS_S, sA_S, sA_lt, sS_lt, Nat.reduceLT, id_eq] <;> rfl) ?_
      refine JW.aload_n dX3_wordTo_27 rfl ?_
      refine JW.iload_n dX3_wordTo_28 rfl ?_
      refine JW.iload_n dX3_wordTo_29 rfl ?_
      obtain ⟨o_6, K⟩ := K
      refine JW.mast 7 (f := f7) dX3_wordTo_30 (Nat.le_of_ble_eq_true rfl) rfl o_6.1 o_6.2 rfl ?_
      refine JW.steq (s2 := sS (sS (sS (sS (sS (sS (sS (sA s 7 (upI f7 x2 (if k12 = 0 ∧ k8 = 1 then sortOf k11 else -1))) 7 (enx (s.2 4) (s.1 6) k7)) 8 (knd (s.2 4) (s.1 6) k7)) 9 (plc (s.2 4) (s.1 6) k7)) 10 (vlu (s.2 4) (s.1 6) k7)) 11 (wrd (s.2 4) (s.1 6) k7)) 12 k12) 13 k13) (by simp only [sA_A, sS_S, sA_S, sA_lt, sS_lt, Nat.reduceLT, id_eq] <;> rfl) ?_
      refine JW.aload_n dX3_wordTo_31 rfl ?_
      refine JW.iload_n dX3_wordTo_32 rfl ?_
      refine JW.iconst dX3_wordTo_33 rfl ?_
      refine JW.iadd dX3_wordTo_34 ?_
      refine JW.iload_n dX3_wordTo_35 rfl ?_
      refine JW.bipush dX3_wordTo_36 rfl ?_
      refine JW.icmp_ne (tgt := 56) dX3_wordTo_38 rfl (fun c_7 => ?_) (fun c_7 => ?_)
      · have K := K.1 c_7
        refine JW.iload_n dX3_wordTo_56 rfl ?_
        refine JW.bipush dX3_wordTo_57 rfl ?_
        refine JW.icmp_lt (tgt := 72) dX3_wordTo_59 rfl (fun c_8 => ?_) (fun c_8 => ?_)
        · have K := K.1 c_8
          refine JW.iconst dX3_wordTo_72 rfl ?_
          obtain ⟨o_9, K⟩ := K
          refine JW.mast 7 (f := (upI f7 x2 (if k12 = 0 ∧ k8 = 1 then sortOf k11 else -1))) dX3_wordTo_73 (Nat.le_of_ble_eq_true rfl) rfl o_9.1 o_9.2 rfl ?_
          refine JW.steq (s2 := sS (sS (sS (sS (sS (sS (sS (sA s 7 (upI (upI f7 x2 (if k12 = 0 ∧ k8 = 1 then sortOf k11 else -1)) (i32 (x2 + 1)) (-1))) 7 (enx (s.2 4) (s.1 6) k7)) 8 (knd (s.2 4) (s.1 6) k7)) 9 (plc (s.2 4) (s.1 6) k7)) 10 (vlu (s.2 4) (s.1 6) k7)) 11 (wrd (s.2 4) (s.1 6) k7)) 12 k12) 13 k13) (by simp only [sA_A, sS_S, sA_S, sA_lt, sS_lt, Nat.reduceLT, id_eq] <;> rfl) ?_
          exact JW.vreturn dX3_wordTo_74 rfl ⟨_, rfl, K⟩
        · have K := K.2 c_8
          refine JW.aload_n dX3_wordTo_62 rfl ?_
          refine JW.iconst dX3_wordTo_63 rfl ?_
          refine JW.bipush dX3_wordTo_64 rfl ?_
          obtain ⟨o_10, K⟩ := K
          refine JW.mcall (As := [vI 0, vI 99]) dX3_wordTo_66 vX3_number_2 rfl q1717 (ctX3_number_2 b (sS (sS (sS (sS (sS (sS (sS (sA s 7 (upI f7 x2 (if k12 = 0 ∧ k8 = 1 then sortOf k11 else -1))) 7 (enx (s.2 4) (s.1 6) k7)) 8 (knd (s.2 4) (s.1 6) k7)) 9 (plc (s.2 4) (s.1 6) k7)) 10 (vlu (s.2 4) (s.1 6) k7)) 11 (wrd (s.2 4) (s.1 6) k7)) 12 k12) 13 k13) 0 99 o_10) (Nat.le_of_ble_eq_true rfl) rfl (Nat.le_of_ble_eq_true rfl) ?_
          rintro _ _ ⟨k_11, k_12, k_13, k_14, k_15, k_16, k_17, r_18, rfl, rfl, q_19⟩
          refine JW.steq (s2 := sS (sS (sS (sS (sS (sS (sS (sA s 7 (upI f7 x2 (if k12 = 0 ∧ k8 = 1 then sortOf k11 else -1))) 7 k_11) 8 k_12) 9 k_13) 10 k_14) 11 k_15) 12 k_16) 13 k_17) (by simp only [sA_A, sS_S, sA_S, sA_lt, sS_lt, Nat.reduceLT, id_eq] <;> rfl) ?_
          replace K := K k_11 k_12 k_13 k_14 k_15 k_16 k_17 r_18 q_19
          refine JW.goto (tgt := 73) dX3_wordTo_69 rfl ?_
          obtain ⟨o_20, K⟩ := K
          refine JW.mast 7 (f := (upI f7 x2 (if k12 = 0 ∧ k8 = 1 then sortOf k11 else -1))) dX3_wordTo_73 (Nat.le_of_ble_eq_true rfl) rfl o_20.1 o_20.2 rfl ?_
          refine JW.steq (s2 := sS (sS (sS (sS (sS (sS (sS (sA s 7 (upI (upI f7 x2 (if k12 = 0 ∧ k8 = 1 then sortOf k11 else -1)) (i32 (x2 + 1)) r_18)) 7 k_11) 8 k_12) 9 k_13) 10 k_14) 11 k_15) 12 k_16) 13 k_17) (by simp only [sA_A, sS_S, sA_S, sA_lt, sS_lt, Nat.reduceLT, id_eq] <;> rfl) ?_
          exact JW.vreturn dX3_wordTo_74 rfl ⟨_, rfl, K⟩
      · have K := K.2 c_7
        refine JW.aload_n dX3_wordTo_41 rfl ?_
        refine JW.iconst dX3_wordTo_42 rfl ?_
        refine JW.aload_n dX3_wordTo_43 rfl ?_
        refine JW.iconst dX3_wordTo_44 rfl ?_
        obtain ⟨o_21, K⟩ := K
        refine JW.mcall (As := [vI 0]) dX3_wordTo_45 vX3_many rfl q1723 (ctX3_many b (sS (sS (sS (sS (sS (sS (sS (sA s 7 (upI f7 x2 (if k12 = 0 ∧ k8 = 1 then sortOf k11 else -1))) 7 (enx (s.2 4) (s.1 6) k7)) 8 (knd (s.2 4) (s.1 6) k7)) 9 (plc (s.2 4) (s.1 6) k7)) 10 (vlu (s.2 4) (s.1 6) k7)) 11 (wrd (s.2 4) (s.1 6) k7)) 12 k12) 13 k13) 0 o_21) (Nat.le_of_ble_eq_true rfl) rfl (Nat.le_of_ble_eq_true rfl) ?_
        rintro _ _ ⟨rfl, eq_22⟩
        refine JW.steq (s2 := sS (sS (sS (sS (sS (sS (sS (sA s 7 (upI f7 x2 (if k12 = 0 ∧ k8 = 1 then sortOf k11 else -1))) 7 (enx (s.2 4) (s.1 6) k7)) 8 (knd (s.2 4) (s.1 6) k7)) 9 (plc (s.2 4) (s.1 6) k7)) 10 (vlu (s.2 4) (s.1 6) k7)) 11 (wrd (s.2 4) (s.1 6) k7)) 12 k12) 13 k13) eq_22 ?_
        refine JW.iconst dX3_wordTo_48 rfl ?_
        refine JW.isub dX3_wordTo_49 ?_
        obtain ⟨o_23, K⟩ := K
        refine JW.mcall (As := [vI 0, vI (i32 (((s.2 6) (24 + (0 : Int))) - 1))]) dX3_wordTo_50 vX3_number_2 rfl q1717 (ctX3_number_2 b (sS (sS (sS (sS (sS (sS (sS (sA s 7 (upI f7 x2 (if k12 = 0 ∧ k8 = 1 then sortOf k11 else -1))) 7 (enx (s.2 4) (s.1 6) k7)) 8 (knd (s.2 4) (s.1 6) k7)) 9 (plc (s.2 4) (s.1 6) k7)) 10 (vlu (s.2 4) (s.1 6) k7)) 11 (wrd (s.2 4) (s.1 6) k7)) 12 k12) 13 k13) 0 (i32 (((s.2 6) (24 + (0 : Int))) - 1)) o_23) (Nat.le_of_ble_eq_true rfl) rfl (Nat.le_of_ble_eq_true rfl) ?_
        rintro _ _ ⟨k_24, k_25, k_26, k_27, k_28, k_29, k_30, r_31, rfl, rfl, q_32⟩
        refine JW.steq (s2 := sS (sS (sS (sS (sS (sS (sS (sA s 7 (upI f7 x2 (if k12 = 0 ∧ k8 = 1 then sortOf k11 else -1))) 7 k_24) 8 k_25) 9 k_26) 10 k_27) 11 k_28) 12 k_29) 13 k_30) (by simp only [sA_A, sS_S, sA_S, sA_lt, sS_lt, Nat.reduceLT, id_eq] <;> rfl) ?_
        replace K := K k_24 k_25 k_26 k_27 k_28 k_29 k_30 r_31 q_32
        refine JW.goto (tgt := 73) dX3_wordTo_53 rfl ?_
        obtain ⟨o_33, K⟩ := K
        refine JW.mast 7 (f := (upI f7 x2 (if k12 = 0 ∧ k8 = 1 then sortOf k11 else -1))) dX3_wordTo_73 (Nat.le_of_ble_eq_true rfl) rfl o_33.1 o_33.2 rfl ?_
        refine JW.steq (s2 := sS (sS (sS (sS (sS (sS (sS (sA s 7 (upI (upI f7 x2 (if k12 = 0 ∧ k8 = 1 then sortOf k11 else -1)) (i32 (x2 + 1)) r_31)) 7 k_24) 8 k_25) 9 k_26) 10 k_27) 11 k_28) 12 k_29) 13 k_30) (by simp only [sA_A, sS_S, sA_S, sA_lt, sS_lt, Nat.reduceLT, id_eq] <;> rfl) ?_
        exact JW.vreturn dX3_wordTo_74 rfl ⟨_, rfl, K⟩
    · have K := K.2 c_3
      exact JW.vreturn dX3_wordTo_22 rfl ⟨_, rfl, K⟩
  · have K := K.2 c_2
    refine JW.aload_n dX3_wordTo_10 rfl ?_
    refine JW.iconst dX3_wordTo_11 rfl ?_
    refine JW.mcall (As := [vI 1]) dX3_wordTo_12 vX3_fails rfl q1708 (ctX3_fails b (sS (sS (sS (sS (sS (sS (sS (sA s 7 f7) 7 k7) 8 k8) 9 k9) 10 k10) 11 k11) 12 k12) 13 k13) 1) (Nat.le_of_ble_eq_true rfl) rfl (Nat.le_of_ble_eq_true rfl) ?_
    rintro _ _ ⟨rfl, rfl⟩
    refine JW.steq (s2 := sS (sS (sS (sS (sS (sS (sS (sA s 7 f7) 7 k7) 8 k8) 9 k9) 10 k10) 11 k11) 12 (if k12 = 0 then (1 : Int) else k12)) 13 (if k12 = 0 then k9 else k13)) (by simp only [sA_A, sS_S, sA_S, sA_lt, sS_lt, Nat.reduceLT, id_eq] <;> rfl) ?_
    refine JW.aload_n dX3_wordTo_15 rfl ?_
    refine JW.mget (v := vI (if k12 = 0 then (1 : Int) else k12)) dX3_wordTo_16 fX3_129 rfl ?_
    refine JW.if_eq (tgt := 23) dX3_wordTo_19 rfl (fun c_35 => ?_) (fun c_35 => ?_)
    · have K := K.1 c_35
      refine JW.aload_n dX3_wordTo_23 rfl ?_
      obtain ⟨o_36, K⟩ := K
      refine JW.mcall (As := []) dX3_wordTo_24 vX3_next rfl q1674 (ctX3_next b (sS (sS (sS (sS (sS (sS (sS (sA s 7 f7) 7 k7) 8 k8) 9 k9) 10 k10) 11 k11) 12 (if k12 = 0 then (1 : Int) else k12)) 13 (if k12 = 0 then k9 else k13)) o_36) (Nat.le_of_ble_eq_true rfl) rfl (Nat.le_of_ble_eq_true rfl) ?_
      rintro _ _ ⟨rfl, rfl⟩
      refine JW.steq (s2 := sS (sS (sS (sS (sS (sS (sS (sA s 7 f7) 7 (enx (s.2 4) (s.1 6) k7)) 8 (knd (s.2 4) (s.1 6) k7)) 9 (plc (s.2 4) (s.1 6) k7)) 10 (vlu (s.2 4) (s.1 6) k7)) 11 (wrd (s.2 4) (s.1 6) k7)) 12 (if k12 = 0 then (1 : Int) else k12)) 13 (if k12 = 0 then k9 else k13)) (by simp only [sA_A, sS_S, sA_S, sA_lt, sS_lt, Nat.reduceLT, id_eq] <;> rfl) ?_
      refine JW.aload_n dX3_wordTo_27 rfl ?_
      refine JW.iload_n dX3_wordTo_28 rfl ?_
      refine JW.iload_n dX3_wordTo_29 rfl ?_
      obtain ⟨o_38, K⟩ := K
      refine JW.mast 7 (f := f7) dX3_wordTo_30 (Nat.le_of_ble_eq_true rfl) rfl o_38.1 o_38.2 rfl ?_
      refine JW.steq (s2 := sS (sS (sS (sS (sS (sS (sS (sA s 7 (upI f7 x2 (if k12 = 0 ∧ k8 = 1 then sortOf k11 else -1))) 7 (enx (s.2 4) (s.1 6) k7)) 8 (knd (s.2 4) (s.1 6) k7)) 9 (plc (s.2 4) (s.1 6) k7)) 10 (vlu (s.2 4) (s.1 6) k7)) 11 (wrd (s.2 4) (s.1 6) k7)) 12 (if k12 = 0 then (1 : Int) else k12)) 13 (if k12 = 0 then k9 else k13)) (by simp only [sA_A, sS_S, sA_S, sA_lt, sS_lt, Nat.reduceLT, id_eq] <;> rfl) ?_
      refine JW.aload_n dX3_wordTo_31 rfl ?_
      refine JW.iload_n dX3_wordTo_32 rfl ?_
      refine JW.iconst dX3_wordTo_33 rfl ?_
      refine JW.iadd dX3_wordTo_34 ?_
      refine JW.iload_n dX3_wordTo_35 rfl ?_
      refine JW.bipush dX3_wordTo_36 rfl ?_
      refine JW.icmp_ne (tgt := 56) dX3_wordTo_38 rfl (fun c_39 => ?_) (fun c_39 => ?_)
      · have K := K.1 c_39
        refine JW.iload_n dX3_wordTo_56 rfl ?_
        refine JW.bipush dX3_wordTo_57 rfl ?_
        refine JW.icmp_lt (tgt := 72) dX3_wordTo_59 rfl (fun c_40 => ?_) (fun c_40 => ?_)
        · have K := K.1 c_40
          refine JW.iconst dX3_wordTo_72 rfl ?_
          obtain ⟨o_41, K⟩ := K
          refine JW.mast 7 (f := (upI f7 x2 (if k12 = 0 ∧ k8 = 1 then sortOf k11 else -1))) dX3_wordTo_73 (Nat.le_of_ble_eq_true rfl) rfl o_41.1 o_41.2 rfl ?_
          refine JW.steq (s2 := sS (sS (sS (sS (sS (sS (sS (sA s 7 (upI (upI f7 x2 (if k12 = 0 ∧ k8 = 1 then sortOf k11 else -1)) (i32 (x2 + 1)) (-1))) 7 (enx (s.2 4) (s.1 6) k7)) 8 (knd (s.2 4) (s.1 6) k7)) 9 (plc (s.2 4) (s.1 6) k7)) 10 (vlu (s.2 4) (s.1 6) k7)) 11 (wrd (s.2 4) (s.1 6) k7)) 12 (if k12 = 0 then (1 : Int) else k12)) 13 (if k12 = 0 then k9 else k13)) (by simp only [sA_A, sS_S, sA_S, sA_lt, sS_lt, Nat.reduceLT, id_eq] <;> rfl) ?_
          exact JW.vreturn dX3_wordTo_74 rfl ⟨_, rfl, K⟩
        · have K := K.2 c_40
          refine JW.aload_n dX3_wordTo_62 rfl ?_
          refine JW.iconst dX3_wordTo_63 rfl ?_
          refine JW.bipush dX3_wordTo_64 rfl ?_
          obtain ⟨o_42, K⟩ := K
          refine JW.mcall (As := [vI 0, vI 99]) dX3_wordTo_66 vX3_number_2 rfl q1717 (ctX3_number_2 b (sS (sS (sS (sS (sS (sS (sS (sA s 7 (upI f7 x2 (if k12 = 0 ∧ k8 = 1 then sortOf k11 else -1))) 7 (enx (s.2 4) (s.1 6) k7)) 8 (knd (s.2 4) (s.1 6) k7)) 9 (plc (s.2 4) (s.1 6) k7)) 10 (vlu (s.2 4) (s.1 6) k7)) 11 (wrd (s.2 4) (s.1 6) k7)) 12 (if k12 = 0 then (1 : Int) else k12)) 13 (if k12 = 0 then k9 else k13)) 0 99 o_42) (Nat.le_of_ble_eq_true rfl) rfl (Nat.le_of_ble_eq_true rfl) ?_
          rintro _ _ ⟨k_43, k_44, k_45, k_46, k_47, k_48, k_49, r_50, rfl, rfl, q_51⟩
          refine JW.steq (s2 := sS (sS (sS (sS (sS (sS (sS (sA s 7 (upI f7 x2 (if k12 = 0 ∧ k8 = 1 then sortOf k11 else -1))) 7 k_43) 8 k_44) 9 k_45) 10 k_46) 11 k_47) 12 k_48) 13 k_49) (by simp only [sA_A, sS_S, sA_S, sA_lt, sS_lt, Nat.reduceLT, id_eq] <;> rfl) ?_
          replace K := K k_43 k_44 k_45 k_46 k_47 k_48 k_49 r_50 q_51
          refine JW.goto (tgt := 73) dX3_wordTo_69 rfl ?_
          obtain ⟨o_52, K⟩ := K
          refine JW.mast 7 (f := (upI f7 x2 (if k12 = 0 ∧ k8 = 1 then sortOf k11 else -1))) dX3_wordTo_73 (Nat.le_of_ble_eq_true rfl) rfl o_52.1 o_52.2 rfl ?_
          refine JW.steq (s2 := sS (sS (sS (sS (sS (sS (sS (sA s 7 (upI (upI f7 x2 (if k12 = 0 ∧ k8 = 1 then sortOf k11 else -1)) (i32 (x2 + 1)) r_50)) 7 k_43) 8 k_44) 9 k_45) 10 k_46) 11 k_47) 12 k_48) 13 k_49) (by simp only [sA_A, sS_S, sA_S, sA_lt, sS_lt, Nat.reduceLT, id_eq] <;> rfl) ?_
          exact JW.vreturn dX3_wordTo_74 rfl ⟨_, rfl, K⟩
      · have K := K.2 c_39
        refine JW.aload_n dX3_wordTo_41 rfl ?_
        refine JW.iconst dX3_wordTo_42 rfl ?_
        refine JW.aload_n dX3_wordTo_43 rfl ?_
        refine JW.iconst dX3_wordTo_44 rfl ?_
        obtain ⟨o_53, K⟩ := K
        refine JW.mcall (As := [vI 0]) dX3_wordTo_45 vX3_many rfl q1723 (ctX3_many b (sS (sS (sS (sS (sS (sS (sS (sA s 7 (upI f7 x2 (if k12 = 0 ∧ k8 = 1 then sortOf k11 else -1))) 7 (enx (s.2 4) (s.1 6) k7)) 8 (knd (s.2 4) (s.1 6) k7)) 9 (plc (s.2 4) (s.1 6) k7)) 10 (vlu (s.2 4) (s.1 6) k7)) 11 (wrd (s.2 4) (s.1 6) k7)) 12 (if k12 = 0 then (1 : Int) else k12)) 13 (if k12 = 0 then k9 else k13)) 0 o_53) (Nat.le_of_ble_eq_true rfl) rfl (Nat.le_of_ble_eq_true rfl) ?_
        rintro _ _ ⟨rfl, eq_54⟩
        refine JW.steq (s2 := sS (sS (sS (sS (sS (sS (sS (sA s 7 (upI f7 x2 (if k12 = 0 ∧ k8 = 1 then sortOf k11 else -1))) 7 (enx (s.2 4) (s.1 6) k7)) 8 (knd (s.2 4) (s.1 6) k7)) 9 (plc (s.2 4) (s.1 6) k7)) 10 (vlu (s.2 4) (s.1 6) k7)) 11 (wrd (s.2 4) (s.1 6) k7)) 12 (if k12 = 0 then (1 : Int) else k12)) 13 (if k12 = 0 then k9 else k13)) eq_54 ?_
        refine JW.iconst dX3_wordTo_48 rfl ?_
        refine JW.isub dX3_wordTo_49 ?_
        obtain ⟨o_55, K⟩ := K
        refine JW.mcall (As := [vI 0, vI (i32 (((s.2 6) (24 + (0 : Int))) - 1))]) dX3_wordTo_50 vX3_number_2 rfl q1717 (ctX3_number_2 b (sS (sS (sS (sS (sS (sS (sS (sA s 7 (upI f7 x2 (if k12 = 0 ∧ k8 = 1 then sortOf k11 else -1))) 7 (enx (s.2 4) (s.1 6) k7)) 8 (knd (s.2 4) (s.1 6) k7)) 9 (plc (s.2 4) (s.1 6) k7)) 10 (vlu (s.2 4) (s.1 6) k7)) 11 (wrd (s.2 4) (s.1 6) k7)) 12 (if k12 = 0 then (1 : Int) else k12)) 13 (if k12 = 0 then k9 else k13)) 0 (i32 (((s.2 6) (24 + (0 : Int))) - 1)) o_55) (Nat.le_of_ble_eq_true rfl) rfl (Nat.le_of_ble_eq_true rfl) ?_
        rintro _ _ ⟨k_56, k_57, k_58, k_59, k_60, k_61, k_62, r_63, rfl, rfl, q_64⟩
        refine JW.steq (s2 := sS (sS (sS (sS (sS (sS (sS (sA s 7 (upI f7 x2 (if k12 = 0 ∧ k8 = 1 then sortOf k11 else -1))) 7 k_56) 8 k_57) 9 k_58) 10 k_59) 11 k_60) 12 k_61) 13 k_62) (by simp only [sA_A, sS_S, sA_S, sA_lt, sS_lt, Nat.reduceLT, id_eq] <;> rfl) ?_
        replace K := K k_56 k_57 k_58 k_59 k_60 k_61 k_62 r_63 q_64
        refine JW.goto (tgt := 73) dX3_wordTo_53 rfl ?_
        obtain ⟨o_65, K⟩ := K
        refine JW.mast 7 (f := (upI f7 x2 (if k12 = 0 ∧ k8 = 1 then sortOf k11 else -1))) dX3_wordTo_73 (Nat.le_of_ble_eq_true rfl) rfl o_65.1 o_65.2 rfl ?_
        refine JW.steq (s2 := sS (sS (sS (sS (sS (sS (sS (sA s 7 (upI (upI f7 x2 (if k12 = 0 ∧ k8 = 1 then sortOf k11 else -1)) (i32 (x2 + 1)) r_63)) 7 k_56) 8 k_57) 9 k_58) 10 k_59) 11 k_60) 12 k_61) 13 k_62) (by simp only [sA_A, sS_S, sA_S, sA_lt, sS_lt, Nat.reduceLT, id_eq] <;> rfl) ?_
        exact JW.vreturn dX3_wordTo_74 rfl ⟨_, rfl, K⟩
    · have K := K.2 c_35
      exact JW.vreturn dX3_wordTo_22 rfl ⟨_, rfl, K⟩
def QX3_wordTo_7 (s : MS) (a2 : Int) : Option AV → MS → Prop := fun v s' => ∃ (f7 : Int → Int) (k7 : Int) (k8 : Int) (k9 : Int) (k10 : Int) (k11 : Int) (k12 : Int) (k13 : Int), v = none ∧ s' = sS (sS (sS (sS (sS (sS (sS (sA s 7 f7) 7 k7) 8 k8) 9 k9) 10 k10) 11 k11) 12 k12) 13 k13 ∧ (wordQ (s.2 4) (s.1 6) ((s.2 6) 24) (s.1 7) (s.1 8) (s.1 9) (s.1 10) (s.1 11) (s.1 12) (s.1 13) (s.2 7) k7 k8 k9 k10 k11 k12 k13 f7 a2)
theorem vX3_wordTo_7_1 (s : MS) (a2 : Int) (hp : 0 ≤ (s.1 7) ∧ (s.1 7) ≤ (s.1 6) ∧ (s.1 6) ≤ 800 ∧ ((if (s.1 12) = 0 ∧ (s.1 8) = 1 then sortOf (s.1 11) else -1) = -1 ∨ (0 ≤ a2 ∧ a2 + 1 < 120)) ∧ (0 ≤ (s.2 6) 24 ∧ (s.2 6) 24 ≤ 100)) (c_2 : ¬ (if (s.1 12) = 0 ∧ (s.1 8) = 1 then sortOf (s.1 11) else -1) = (-1)) (c_3 : (s.1 12) = 0) : (0 ≤ (s.1 7) ∧ (s.1 7) ≤ (s.1 6) ∧ (s.1 6) ≤ 800) := by
  obtain ⟨p0, p1, p2, p3, p4⟩ := hp
  (try simp only [bI_0, bI_n, Classical.not_not, Int.add_zero] at *)
  (try have p5 := p3.resolve_left c_2)
  (try simp (disch := omega) only [i32_id] at *)
  (try unfold lex3)
  (try simp only [bI_0, bI_n, Classical.not_not] at *)
  (try simp (disch := omega) only [i32_id] at *)
  first | done | omega | ((repeat' (with_reducible apply And.intro)) <;> first | assumption | rfl | omega | (exact wordQ_n p0 p1 (by assumption) rfl rfl) | (exact wordQ_p p0 p1 rfl (by assumption) (by assumption)) | (exact wordQ_w p0 p1 rfl (by assumption) (by omega) (by rw [if_pos (by assumption)]) (by assumption)) | (exact wordQ_w p0 p1 rfl (by assumption) (by omega) (by rw [if_neg (by assumption)]) (by assumption)) | (exact (enx_b p1).2.1) | (have := (enx_b (t := s.2 4) p1).1; omega) | grind [upI])
theorem vX3_wordTo_7_2 (s : MS) (a2 : Int) (hp : 0 ≤ (s.1 7) ∧ (s.1 7) ≤ (s.1 6) ∧ (s.1 6) ≤ 800 ∧ ((if (s.1 12) = 0 ∧ (s.1 8) = 1 then sortOf (s.1 11) else -1) = -1 ∨ (0 ≤ a2 ∧ a2 + 1 < 120)) ∧ (0 ≤ (s.2 6) 24 ∧ (s.2 6) 24 ≤ 100)) (c_2 : ¬ (if (s.1 12) = 0 ∧ (s.1 8) = 1 then sortOf (s.1 11) else -1) = (-1)) (c_3 : (s.1 12) = 0) (o_4 : (0 ≤ (s.1 7) ∧ (s.1 7) ≤ (s.1 6) ∧ (s.1 6) ≤ 800)) : (0 ≤ a2 ∧ a2 < 120) := by
  obtain ⟨p0, p1, p2, p3, p4⟩ := hp
  (try simp only [bI_0, bI_n, Classical.not_not, Int.add_zero] at *)
  (try have p5 := p3.resolve_left c_2)
  (try simp (disch := omega) only [i32_id] at *)
  (try unfold lex3)
  (try simp only [bI_0, bI_n, Classical.not_not] at *)
  (try simp (disch := omega) only [i32_id] at *)
  first | done | omega | ((repeat' (with_reducible apply And.intro)) <;> first | assumption | rfl | omega | (exact wordQ_n p0 p1 (by assumption) rfl rfl) | (exact wordQ_p p0 p1 rfl (by assumption) (by assumption)) | (exact wordQ_w p0 p1 rfl (by assumption) (by omega) (by rw [if_pos (by assumption)]) (by assumption)) | (exact wordQ_w p0 p1 rfl (by assumption) (by omega) (by rw [if_neg (by assumption)]) (by assumption)) | (exact (enx_b p1).2.1) | (have := (enx_b (t := s.2 4) p1).1; omega) | grind [upI])
theorem vX3_wordTo_7_3 (s : MS) (a2 : Int) (hp : 0 ≤ (s.1 7) ∧ (s.1 7) ≤ (s.1 6) ∧ (s.1 6) ≤ 800 ∧ ((if (s.1 12) = 0 ∧ (s.1 8) = 1 then sortOf (s.1 11) else -1) = -1 ∨ (0 ≤ a2 ∧ a2 + 1 < 120)) ∧ (0 ≤ (s.2 6) 24 ∧ (s.2 6) 24 ≤ 100)) (c_2 : ¬ (if (s.1 12) = 0 ∧ (s.1 8) = 1 then sortOf (s.1 11) else -1) = (-1)) (c_3 : (s.1 12) = 0) (o_4 : (0 ≤ (s.1 7) ∧ (s.1 7) ≤ (s.1 6) ∧ (s.1 6) ≤ 800)) (o_6 : (0 ≤ a2 ∧ a2 < 120)) (c_7 : ¬ (if (s.1 12) = 0 ∧ (s.1 8) = 1 then sortOf (s.1 11) else -1) = 14) (c_8 : (if (s.1 12) = 0 ∧ (s.1 8) = 1 then sortOf (s.1 11) else -1) < 12) : (0 ≤ (i32 (a2 + 1)) ∧ (i32 (a2 + 1)) < 120) := by
  obtain ⟨p0, p1, p2, p3, p4⟩ := hp
  (try simp only [bI_0, bI_n, Classical.not_not, Int.add_zero] at *)
  (try have p5 := p3.resolve_left c_2)
  (try simp (disch := omega) only [i32_id] at *)
  (try unfold lex3)
  (try simp only [bI_0, bI_n, Classical.not_not] at *)
  (try simp (disch := omega) only [i32_id] at *)
  first | done | omega | ((repeat' (with_reducible apply And.intro)) <;> first | assumption | rfl | omega | (exact wordQ_n p0 p1 (by assumption) rfl rfl) | (exact wordQ_p p0 p1 rfl (by assumption) (by assumption)) | (exact wordQ_w p0 p1 rfl (by assumption) (by omega) (by rw [if_pos (by assumption)]) (by assumption)) | (exact wordQ_w p0 p1 rfl (by assumption) (by omega) (by rw [if_neg (by assumption)]) (by assumption)) | (exact (enx_b p1).2.1) | (have := (enx_b (t := s.2 4) p1).1; omega) | grind [upI])
theorem vX3_wordTo_7_4 (s : MS) (a2 : Int) (hp : 0 ≤ (s.1 7) ∧ (s.1 7) ≤ (s.1 6) ∧ (s.1 6) ≤ 800 ∧ ((if (s.1 12) = 0 ∧ (s.1 8) = 1 then sortOf (s.1 11) else -1) = -1 ∨ (0 ≤ a2 ∧ a2 + 1 < 120)) ∧ (0 ≤ (s.2 6) 24 ∧ (s.2 6) 24 ≤ 100)) (c_2 : ¬ (if (s.1 12) = 0 ∧ (s.1 8) = 1 then sortOf (s.1 11) else -1) = (-1)) (c_3 : (s.1 12) = 0) (o_4 : (0 ≤ (s.1 7) ∧ (s.1 7) ≤ (s.1 6) ∧ (s.1 6) ≤ 800)) (o_6 : (0 ≤ a2 ∧ a2 < 120)) (c_7 : ¬ (if (s.1 12) = 0 ∧ (s.1 8) = 1 then sortOf (s.1 11) else -1) = 14) (c_8 : (if (s.1 12) = 0 ∧ (s.1 8) = 1 then sortOf (s.1 11) else -1) < 12) (o_9 : (0 ≤ (i32 (a2 + 1)) ∧ (i32 (a2 + 1)) < 120)) : wordQ (s.2 4) (s.1 6) ((s.2 6) 24) (s.1 7) (s.1 8) (s.1 9) (s.1 10) (s.1 11) (s.1 12) (s.1 13) (s.2 7) (enx (s.2 4) (s.1 6) (s.1 7)) (knd (s.2 4) (s.1 6) (s.1 7)) (plc (s.2 4) (s.1 6) (s.1 7)) (vlu (s.2 4) (s.1 6) (s.1 7)) (wrd (s.2 4) (s.1 6) (s.1 7)) (s.1 12) (s.1 13) (upI (upI (s.2 7) a2 (if (s.1 12) = 0 ∧ (s.1 8) = 1 then sortOf (s.1 11) else -1)) (i32 (a2 + 1)) (-1)) a2 := by
  obtain ⟨p0, p1, p2, p3, p4⟩ := hp
  (try simp only [bI_0, bI_n, Classical.not_not, Int.add_zero] at *)
  (try have p5 := p3.resolve_left c_2)
  (try simp (disch := omega) only [i32_id] at *)
  (try unfold lex3)
  (try simp only [bI_0, bI_n, Classical.not_not] at *)
  (try simp (disch := omega) only [i32_id] at *)
  first | done | omega | ((repeat' (with_reducible apply And.intro)) <;> first | assumption | rfl | omega | (exact wordQ_n p0 p1 (by assumption) rfl rfl) | (exact wordQ_p p0 p1 rfl (by assumption) (by assumption)) | (exact wordQ_w p0 p1 rfl (by assumption) (by omega) (by rw [if_pos (by assumption)]) (by assumption)) | (exact wordQ_w p0 p1 rfl (by assumption) (by omega) (by rw [if_neg (by assumption)]) (by assumption)) | (exact (enx_b p1).2.1) | (have := (enx_b (t := s.2 4) p1).1; omega) | grind [upI])
theorem vX3_wordTo_7_5 (s : MS) (a2 : Int) (hp : 0 ≤ (s.1 7) ∧ (s.1 7) ≤ (s.1 6) ∧ (s.1 6) ≤ 800 ∧ ((if (s.1 12) = 0 ∧ (s.1 8) = 1 then sortOf (s.1 11) else -1) = -1 ∨ (0 ≤ a2 ∧ a2 + 1 < 120)) ∧ (0 ≤ (s.2 6) 24 ∧ (s.2 6) 24 ≤ 100)) (c_2 : ¬ (if (s.1 12) = 0 ∧ (s.1 8) = 1 then sortOf (s.1 11) else -1) = (-1)) (c_3 : (s.1 12) = 0) (o_4 : (0 ≤ (s.1 7) ∧ (s.1 7) ≤ (s.1 6) ∧ (s.1 6) ≤ 800)) (o_6 : (0 ≤ a2 ∧ a2 < 120)) (c_7 : ¬ (if (s.1 12) = 0 ∧ (s.1 8) = 1 then sortOf (s.1 11) else -1) = 14) (c_8 : ¬ (if (s.1 12) = 0 ∧ (s.1 8) = 1 then sortOf (s.1 11) else -1) < 12) : (0 ≤ (enx (s.2 4) (s.1 6) (s.1 7)) ∧ (enx (s.2 4) (s.1 6) (s.1 7)) ≤ (s.1 6) ∧ (s.1 6) ≤ 800) := by
  obtain ⟨p0, p1, p2, p3, p4⟩ := hp
  (try simp only [bI_0, bI_n, Classical.not_not, Int.add_zero] at *)
  (try have p5 := p3.resolve_left c_2)
  (try simp (disch := omega) only [i32_id] at *)
  (try unfold lex3)
  (try simp only [bI_0, bI_n, Classical.not_not] at *)
  (try simp (disch := omega) only [i32_id] at *)
  first | done | omega | ((repeat' (with_reducible apply And.intro)) <;> first | assumption | rfl | omega | (exact wordQ_n p0 p1 (by assumption) rfl rfl) | (exact wordQ_p p0 p1 rfl (by assumption) (by assumption)) | (exact wordQ_w p0 p1 rfl (by assumption) (by omega) (by rw [if_pos (by assumption)]) (by assumption)) | (exact wordQ_w p0 p1 rfl (by assumption) (by omega) (by rw [if_neg (by assumption)]) (by assumption)) | (exact (enx_b p1).2.1) | (have := (enx_b (t := s.2 4) p1).1; omega) | grind [upI])
theorem vX3_wordTo_7_6 (s : MS) (a2 : Int) (hp : 0 ≤ (s.1 7) ∧ (s.1 7) ≤ (s.1 6) ∧ (s.1 6) ≤ 800 ∧ ((if (s.1 12) = 0 ∧ (s.1 8) = 1 then sortOf (s.1 11) else -1) = -1 ∨ (0 ≤ a2 ∧ a2 + 1 < 120)) ∧ (0 ≤ (s.2 6) 24 ∧ (s.2 6) 24 ≤ 100)) (c_2 : ¬ (if (s.1 12) = 0 ∧ (s.1 8) = 1 then sortOf (s.1 11) else -1) = (-1)) (c_3 : (s.1 12) = 0) (o_4 : (0 ≤ (s.1 7) ∧ (s.1 7) ≤ (s.1 6) ∧ (s.1 6) ≤ 800)) (o_6 : (0 ≤ a2 ∧ a2 < 120)) (c_7 : ¬ (if (s.1 12) = 0 ∧ (s.1 8) = 1 then sortOf (s.1 11) else -1) = 14) (c_8 : ¬ (if (s.1 12) = 0 ∧ (s.1 8) = 1 then sortOf (s.1 11) else -1) < 12) (o_10 : (0 ≤ (enx (s.2 4) (s.1 6) (s.1 7)) ∧ (enx (s.2 4) (s.1 6) (s.1 7)) ≤ (s.1 6) ∧ (s.1 6) ≤ 800)) (k_11 : Int) (k_12 : Int) (k_13 : Int) (k_14 : Int) (k_15 : Int) (k_16 : Int) (k_17 : Int) (r_18 : Int) (q_19 : (numQ (s.2 4) (s.1 6) (0 : Int) (99 : Int) (enx (s.2 4) (s.1 6) (s.1 7)) (knd (s.2 4) (s.1 6) (s.1 7)) (plc (s.2 4) (s.1 6) (s.1 7)) (vlu (s.2 4) (s.1 6) (s.1 7)) (wrd (s.2 4) (s.1 6) (s.1 7)) (s.1 12) (s.1 13) k_11 k_12 k_13 k_14 k_15 k_16 k_17 r_18)) : (0 ≤ (i32 (a2 + 1)) ∧ (i32 (a2 + 1)) < 120) := by
  obtain ⟨p0, p1, p2, p3, p4⟩ := hp
  (try simp only [bI_0, bI_n, Classical.not_not, Int.add_zero] at *)
  (try have p5 := p3.resolve_left c_2)
  (try simp (disch := omega) only [i32_id] at *)
  (try unfold lex3)
  (try simp only [bI_0, bI_n, Classical.not_not] at *)
  (try simp (disch := omega) only [i32_id] at *)
  first | done | omega | ((repeat' (with_reducible apply And.intro)) <;> first | assumption | rfl | omega | (exact wordQ_n p0 p1 (by assumption) rfl rfl) | (exact wordQ_p p0 p1 rfl (by assumption) (by assumption)) | (exact wordQ_w p0 p1 rfl (by assumption) (by omega) (by rw [if_pos (by assumption)]) (by assumption)) | (exact wordQ_w p0 p1 rfl (by assumption) (by omega) (by rw [if_neg (by assumption)]) (by assumption)) | (exact (enx_b p1).2.1) | (have := (enx_b (t := s.2 4) p1).1; omega) | grind [upI])
theorem vX3_wordTo_7_7 (s : MS) (a2 : Int) (hp : 0 ≤ (s.1 7) ∧ (s.1 7) ≤ (s.1 6) ∧ (s.1 6) ≤ 800 ∧ ((if (s.1 12) = 0 ∧ (s.1 8) = 1 then sortOf (s.1 11) else -1) = -1 ∨ (0 ≤ a2 ∧ a2 + 1 < 120)) ∧ (0 ≤ (s.2 6) 24 ∧ (s.2 6) 24 ≤ 100)) (c_2 : ¬ (if (s.1 12) = 0 ∧ (s.1 8) = 1 then sortOf (s.1 11) else -1) = (-1)) (c_3 : (s.1 12) = 0) (o_4 : (0 ≤ (s.1 7) ∧ (s.1 7) ≤ (s.1 6) ∧ (s.1 6) ≤ 800)) (o_6 : (0 ≤ a2 ∧ a2 < 120)) (c_7 : ¬ (if (s.1 12) = 0 ∧ (s.1 8) = 1 then sortOf (s.1 11) else -1) = 14) (c_8 : ¬ (if (s.1 12) = 0 ∧ (s.1 8) = 1 then sortOf (s.1 11) else -1) < 12) (o_10 : (0 ≤ (enx (s.2 4) (s.1 6) (s.1 7)) ∧ (enx (s.2 4) (s.1 6) (s.1 7)) ≤ (s.1 6) ∧ (s.1 6) ≤ 800)) (k_11 : Int) (k_12 : Int) (k_13 : Int) (k_14 : Int) (k_15 : Int) (k_16 : Int) (k_17 : Int) (r_18 : Int) (q_19 : (numQ (s.2 4) (s.1 6) (0 : Int) (99 : Int) (enx (s.2 4) (s.1 6) (s.1 7)) (knd (s.2 4) (s.1 6) (s.1 7)) (plc (s.2 4) (s.1 6) (s.1 7)) (vlu (s.2 4) (s.1 6) (s.1 7)) (wrd (s.2 4) (s.1 6) (s.1 7)) (s.1 12) (s.1 13) k_11 k_12 k_13 k_14 k_15 k_16 k_17 r_18)) (o_20 : (0 ≤ (i32 (a2 + 1)) ∧ (i32 (a2 + 1)) < 120)) : wordQ (s.2 4) (s.1 6) ((s.2 6) 24) (s.1 7) (s.1 8) (s.1 9) (s.1 10) (s.1 11) (s.1 12) (s.1 13) (s.2 7) k_11 k_12 k_13 k_14 k_15 k_16 k_17 (upI (upI (s.2 7) a2 (if (s.1 12) = 0 ∧ (s.1 8) = 1 then sortOf (s.1 11) else -1)) (i32 (a2 + 1)) r_18) a2 := by
  obtain ⟨p0, p1, p2, p3, p4⟩ := hp
  (try simp only [bI_0, bI_n, Classical.not_not, Int.add_zero] at *)
  (try have p5 := p3.resolve_left c_2)
  (try simp (disch := omega) only [i32_id] at *)
  (try unfold lex3)
  (try simp only [bI_0, bI_n, Classical.not_not] at *)
  (try simp (disch := omega) only [i32_id] at *)
  first | done | omega | ((repeat' (with_reducible apply And.intro)) <;> first | assumption | rfl | omega | (exact wordQ_n p0 p1 (by assumption) rfl rfl) | (exact wordQ_p p0 p1 rfl (by assumption) (by assumption)) | (exact wordQ_w p0 p1 rfl (by assumption) (by omega) (by rw [if_pos (by assumption)]) (by assumption)) | (exact wordQ_w p0 p1 rfl (by assumption) (by omega) (by rw [if_neg (by assumption)]) (by assumption)) | (exact (enx_b p1).2.1) | (have := (enx_b (t := s.2 4) p1).1; omega) | grind [upI])
theorem vX3_wordTo_7_8 (s : MS) (a2 : Int) (hp : 0 ≤ (s.1 7) ∧ (s.1 7) ≤ (s.1 6) ∧ (s.1 6) ≤ 800 ∧ ((if (s.1 12) = 0 ∧ (s.1 8) = 1 then sortOf (s.1 11) else -1) = -1 ∨ (0 ≤ a2 ∧ a2 + 1 < 120)) ∧ (0 ≤ (s.2 6) 24 ∧ (s.2 6) 24 ≤ 100)) (c_2 : ¬ (if (s.1 12) = 0 ∧ (s.1 8) = 1 then sortOf (s.1 11) else -1) = (-1)) (c_3 : (s.1 12) = 0) (o_4 : (0 ≤ (s.1 7) ∧ (s.1 7) ≤ (s.1 6) ∧ (s.1 6) ≤ 800)) (o_6 : (0 ≤ a2 ∧ a2 < 120)) (c_7 : (if (s.1 12) = 0 ∧ (s.1 8) = 1 then sortOf (s.1 11) else -1) = 14) : (0 ≤ (0 : Int) ∧ (0 : Int) < 6) := by
  obtain ⟨p0, p1, p2, p3, p4⟩ := hp
  (try simp only [bI_0, bI_n, Classical.not_not, Int.add_zero] at *)
  (try have p5 := p3.resolve_left c_2)
  (try simp (disch := omega) only [i32_id] at *)
  (try unfold lex3)
  (try simp only [bI_0, bI_n, Classical.not_not] at *)
  (try simp (disch := omega) only [i32_id] at *)
  first | done | omega | ((repeat' (with_reducible apply And.intro)) <;> first | assumption | rfl | omega | (exact wordQ_n p0 p1 (by assumption) rfl rfl) | (exact wordQ_p p0 p1 rfl (by assumption) (by assumption)) | (exact wordQ_w p0 p1 rfl (by assumption) (by omega) (by rw [if_pos (by assumption)]) (by assumption)) | (exact wordQ_w p0 p1 rfl (by assumption) (by omega) (by rw [if_neg (by assumption)]) (by assumption)) | (exact (enx_b p1).2.1) | (have := (enx_b (t := s.2 4) p1).1; omega) | grind [upI])
theorem vX3_wordTo_7_9 (s : MS) (a2 : Int) (hp : 0 ≤ (s.1 7) ∧ (s.1 7) ≤ (s.1 6) ∧ (s.1 6) ≤ 800 ∧ ((if (s.1 12) = 0 ∧ (s.1 8) = 1 then sortOf (s.1 11) else -1) = -1 ∨ (0 ≤ a2 ∧ a2 + 1 < 120)) ∧ (0 ≤ (s.2 6) 24 ∧ (s.2 6) 24 ≤ 100)) (c_2 : ¬ (if (s.1 12) = 0 ∧ (s.1 8) = 1 then sortOf (s.1 11) else -1) = (-1)) (c_3 : (s.1 12) = 0) (o_4 : (0 ≤ (s.1 7) ∧ (s.1 7) ≤ (s.1 6) ∧ (s.1 6) ≤ 800)) (o_6 : (0 ≤ a2 ∧ a2 < 120)) (c_7 : (if (s.1 12) = 0 ∧ (s.1 8) = 1 then sortOf (s.1 11) else -1) = 14) (o_21 : (0 ≤ (0 : Int) ∧ (0 : Int) < 6)) : (0 ≤ (enx (s.2 4) (s.1 6) (s.1 7)) ∧ (enx (s.2 4) (s.1 6) (s.1 7)) ≤ (s.1 6) ∧ (s.1 6) ≤ 800) := by
  obtain ⟨p0, p1, p2, p3, p4⟩ := hp
  (try simp only [bI_0, bI_n, Classical.not_not, Int.add_zero] at *)
  (try have p5 := p3.resolve_left c_2)
  (try simp (disch := omega) only [i32_id] at *)
  (try unfold lex3)
  (try simp only [bI_0, bI_n, Classical.not_not] at *)
  (try simp (disch := omega) only [i32_id] at *)
  first | done | omega | ((repeat' (with_reducible apply And.intro)) <;> first | assumption | rfl | omega | (exact wordQ_n p0 p1 (by assumption) rfl rfl) | (exact wordQ_p p0 p1 rfl (by assumption) (by assumption)) | (exact wordQ_w p0 p1 rfl (by assumption) (by omega) (by rw [if_pos (by assumption)]) (by assumption)) | (exact wordQ_w p0 p1 rfl (by assumption) (by omega) (by rw [if_neg (by assumption)]) (by assumption)) | (exact (enx_b p1).2.1) | (have := (enx_b (t := s.2 4) p1).1; omega) | grind [upI])
theorem vX3_wordTo_7_10 (s : MS) (a2 : Int) (hp : 0 ≤ (s.1 7) ∧ (s.1 7) ≤ (s.1 6) ∧ (s.1 6) ≤ 800 ∧ ((if (s.1 12) = 0 ∧ (s.1 8) = 1 then sortOf (s.1 11) else -1) = -1 ∨ (0 ≤ a2 ∧ a2 + 1 < 120)) ∧ (0 ≤ (s.2 6) 24 ∧ (s.2 6) 24 ≤ 100)) (c_2 : ¬ (if (s.1 12) = 0 ∧ (s.1 8) = 1 then sortOf (s.1 11) else -1) = (-1)) (c_3 : (s.1 12) = 0) (o_4 : (0 ≤ (s.1 7) ∧ (s.1 7) ≤ (s.1 6) ∧ (s.1 6) ≤ 800)) (o_6 : (0 ≤ a2 ∧ a2 < 120)) (c_7 : (if (s.1 12) = 0 ∧ (s.1 8) = 1 then sortOf (s.1 11) else -1) = 14) (o_21 : (0 ≤ (0 : Int) ∧ (0 : Int) < 6)) (o_23 : (0 ≤ (enx (s.2 4) (s.1 6) (s.1 7)) ∧ (enx (s.2 4) (s.1 6) (s.1 7)) ≤ (s.1 6) ∧ (s.1 6) ≤ 800)) (k_24 : Int) (k_25 : Int) (k_26 : Int) (k_27 : Int) (k_28 : Int) (k_29 : Int) (k_30 : Int) (r_31 : Int) (q_32 : (numQ (s.2 4) (s.1 6) (0 : Int) (i32 (((s.2 6) (24 + (0 : Int))) - 1)) (enx (s.2 4) (s.1 6) (s.1 7)) (knd (s.2 4) (s.1 6) (s.1 7)) (plc (s.2 4) (s.1 6) (s.1 7)) (vlu (s.2 4) (s.1 6) (s.1 7)) (wrd (s.2 4) (s.1 6) (s.1 7)) (s.1 12) (s.1 13) k_24 k_25 k_26 k_27 k_28 k_29 k_30 r_31)) : (0 ≤ (i32 (a2 + 1)) ∧ (i32 (a2 + 1)) < 120) := by
  obtain ⟨p0, p1, p2, p3, p4⟩ := hp
  (try simp only [bI_0, bI_n, Classical.not_not, Int.add_zero] at *)
  (try have p5 := p3.resolve_left c_2)
  (try simp (disch := omega) only [i32_id] at *)
  (try unfold lex3)
  (try simp only [bI_0, bI_n, Classical.not_not] at *)
  (try simp (disch := omega) only [i32_id] at *)
  first | done | omega | ((repeat' (with_reducible apply And.intro)) <;> first | assumption | rfl | omega | (exact wordQ_n p0 p1 (by assumption) rfl rfl) | (exact wordQ_p p0 p1 rfl (by assumption) (by assumption)) | (exact wordQ_w p0 p1 rfl (by assumption) (by omega) (by rw [if_pos (by assumption)]) (by assumption)) | (exact wordQ_w p0 p1 rfl (by assumption) (by omega) (by rw [if_neg (by assumption)]) (by assumption)) | (exact (enx_b p1).2.1) | (have := (enx_b (t := s.2 4) p1).1; omega) | grind [upI])
theorem vX3_wordTo_7_11 (s : MS) (a2 : Int) (hp : 0 ≤ (s.1 7) ∧ (s.1 7) ≤ (s.1 6) ∧ (s.1 6) ≤ 800 ∧ ((if (s.1 12) = 0 ∧ (s.1 8) = 1 then sortOf (s.1 11) else -1) = -1 ∨ (0 ≤ a2 ∧ a2 + 1 < 120)) ∧ (0 ≤ (s.2 6) 24 ∧ (s.2 6) 24 ≤ 100)) (c_2 : ¬ (if (s.1 12) = 0 ∧ (s.1 8) = 1 then sortOf (s.1 11) else -1) = (-1)) (c_3 : (s.1 12) = 0) (o_4 : (0 ≤ (s.1 7) ∧ (s.1 7) ≤ (s.1 6) ∧ (s.1 6) ≤ 800)) (o_6 : (0 ≤ a2 ∧ a2 < 120)) (c_7 : (if (s.1 12) = 0 ∧ (s.1 8) = 1 then sortOf (s.1 11) else -1) = 14) (o_21 : (0 ≤ (0 : Int) ∧ (0 : Int) < 6)) (o_23 : (0 ≤ (enx (s.2 4) (s.1 6) (s.1 7)) ∧ (enx (s.2 4) (s.1 6) (s.1 7)) ≤ (s.1 6) ∧ (s.1 6) ≤ 800)) (k_24 : Int) (k_25 : Int) (k_26 : Int) (k_27 : Int) (k_28 : Int) (k_29 : Int) (k_30 : Int) (r_31 : Int) (q_32 : (numQ (s.2 4) (s.1 6) (0 : Int) (i32 (((s.2 6) (24 + (0 : Int))) - 1)) (enx (s.2 4) (s.1 6) (s.1 7)) (knd (s.2 4) (s.1 6) (s.1 7)) (plc (s.2 4) (s.1 6) (s.1 7)) (vlu (s.2 4) (s.1 6) (s.1 7)) (wrd (s.2 4) (s.1 6) (s.1 7)) (s.1 12) (s.1 13) k_24 k_25 k_26 k_27 k_28 k_29 k_30 r_31)) (o_33 : (0 ≤ (i32 (a2 + 1)) ∧ (i32 (a2 + 1)) < 120)) : wordQ (s.2 4) (s.1 6) ((s.2 6) 24) (s.1 7) (s.1 8) (s.1 9) (s.1 10) (s.1 11) (s.1 12) (s.1 13) (s.2 7) k_24 k_25 k_26 k_27 k_28 k_29 k_30 (upI (upI (s.2 7) a2 (if (s.1 12) = 0 ∧ (s.1 8) = 1 then sortOf (s.1 11) else -1)) (i32 (a2 + 1)) r_31) a2 := by
  obtain ⟨p0, p1, p2, p3, p4⟩ := hp
  (try simp only [bI_0, bI_n, Classical.not_not, Int.add_zero] at *)
  (try have p5 := p3.resolve_left c_2)
  (try simp (disch := omega) only [i32_id] at *)
  (try unfold lex3)
  (try simp only [bI_0, bI_n, Classical.not_not] at *)
  (try simp (disch := omega) only [i32_id] at *)
  first | done | omega | ((repeat' (with_reducible apply And.intro)) <;> first | assumption | rfl | omega | (exact wordQ_n p0 p1 (by assumption) rfl rfl) | (exact wordQ_p p0 p1 rfl (by assumption) (by assumption)) | (exact wordQ_w p0 p1 rfl (by assumption) (by omega) (by rw [if_pos (by assumption)]) (by assumption)) | (exact wordQ_w p0 p1 rfl (by assumption) (by omega) (by rw [if_neg (by assumption)]) (by assumption)) | (exact (enx_b p1).2.1) | (have := (enx_b (t := s.2 4) p1).1; omega) | grind [upI])
theorem vX3_wordTo_7_12 (s : MS) (a2 : Int) (hp : 0 ≤ (s.1 7) ∧ (s.1 7) ≤ (s.1 6) ∧ (s.1 6) ≤ 800 ∧ ((if (s.1 12) = 0 ∧ (s.1 8) = 1 then sortOf (s.1 11) else -1) = -1 ∨ (0 ≤ a2 ∧ a2 + 1 < 120)) ∧ (0 ≤ (s.2 6) 24 ∧ (s.2 6) 24 ≤ 100)) (c_2 : ¬ (if (s.1 12) = 0 ∧ (s.1 8) = 1 then sortOf (s.1 11) else -1) = (-1)) (c_3 : ¬ (s.1 12) = 0) : wordQ (s.2 4) (s.1 6) ((s.2 6) 24) (s.1 7) (s.1 8) (s.1 9) (s.1 10) (s.1 11) (s.1 12) (s.1 13) (s.2 7) (s.1 7) (s.1 8) (s.1 9) (s.1 10) (s.1 11) (s.1 12) (s.1 13) (s.2 7) a2 := by
  obtain ⟨p0, p1, p2, p3, p4⟩ := hp
  (try simp only [bI_0, bI_n, Classical.not_not, Int.add_zero] at *)
  (try have p5 := p3.resolve_left c_2)
  (try simp (disch := omega) only [i32_id] at *)
  (try unfold lex3)
  (try simp only [bI_0, bI_n, Classical.not_not] at *)
  (try simp (disch := omega) only [i32_id] at *)
  first | done | omega | ((repeat' (with_reducible apply And.intro)) <;> first | assumption | rfl | omega | (exact wordQ_n p0 p1 (by assumption) rfl rfl) | (exact wordQ_p p0 p1 rfl (by assumption) (by assumption)) | (exact wordQ_w p0 p1 rfl (by assumption) (by omega) (by rw [if_pos (by assumption)]) (by assumption)) | (exact wordQ_w p0 p1 rfl (by assumption) (by omega) (by rw [if_neg (by assumption)]) (by assumption)) | (exact (enx_b p1).2.1) | (have := (enx_b (t := s.2 4) p1).1; omega) | grind [upI])
theorem vX3_wordTo_7_13 (s : MS) (a2 : Int) (hp : 0 ≤ (s.1 7) ∧ (s.1 7) ≤ (s.1 6) ∧ (s.1 6) ≤ 800 ∧ ((if (s.1 12) = 0 ∧ (s.1 8) = 1 then sortOf (s.1 11) else -1) = -1 ∨ (0 ≤ a2 ∧ a2 + 1 < 120)) ∧ (0 ≤ (s.2 6) 24 ∧ (s.2 6) 24 ≤ 100)) (c_2 : (if (s.1 12) = 0 ∧ (s.1 8) = 1 then sortOf (s.1 11) else -1) = (-1)) (c_35 : (if (s.1 12) = 0 then (1 : Int) else (s.1 12)) = 0) : (0 ≤ (s.1 7) ∧ (s.1 7) ≤ (s.1 6) ∧ (s.1 6) ≤ 800) := by
  obtain ⟨p0, p1, p2, p3, p4⟩ := hp
  (try simp only [bI_0, bI_n, Classical.not_not, Int.add_zero] at *)
  (try have p5 := p3.resolve_left c_2)
  (try simp (disch := omega) only [i32_id] at *)
  (try unfold lex3)
  (try simp only [bI_0, bI_n, Classical.not_not] at *)
  (try simp (disch := omega) only [i32_id] at *)
  first | done | omega | ((repeat' (with_reducible apply And.intro)) <;> first | assumption | rfl | omega | (exact wordQ_n p0 p1 (by assumption) rfl rfl) | (exact wordQ_p p0 p1 rfl (by assumption) (by assumption)) | (exact wordQ_w p0 p1 rfl (by assumption) (by omega) (by rw [if_pos (by assumption)]) (by assumption)) | (exact wordQ_w p0 p1 rfl (by assumption) (by omega) (by rw [if_neg (by assumption)]) (by assumption)) | (exact (enx_b p1).2.1) | (have := (enx_b (t := s.2 4) p1).1; omega) | grind [upI])
theorem vX3_wordTo_7_14 (s : MS) (a2 : Int) (hp : 0 ≤ (s.1 7) ∧ (s.1 7) ≤ (s.1 6) ∧ (s.1 6) ≤ 800 ∧ ((if (s.1 12) = 0 ∧ (s.1 8) = 1 then sortOf (s.1 11) else -1) = -1 ∨ (0 ≤ a2 ∧ a2 + 1 < 120)) ∧ (0 ≤ (s.2 6) 24 ∧ (s.2 6) 24 ≤ 100)) (c_2 : (if (s.1 12) = 0 ∧ (s.1 8) = 1 then sortOf (s.1 11) else -1) = (-1)) (c_35 : (if (s.1 12) = 0 then (1 : Int) else (s.1 12)) = 0) (o_36 : (0 ≤ (s.1 7) ∧ (s.1 7) ≤ (s.1 6) ∧ (s.1 6) ≤ 800)) : (0 ≤ a2 ∧ a2 < 120) := by
  obtain ⟨p0, p1, p2, p3, p4⟩ := hp
  (try simp only [bI_0, bI_n, Classical.not_not, Int.add_zero] at *)
  (try have p5 := p3.resolve_left c_2)
  (try simp (disch := omega) only [i32_id] at *)
  (try unfold lex3)
  (try simp only [bI_0, bI_n, Classical.not_not] at *)
  (try simp (disch := omega) only [i32_id] at *)
  first | done | omega | ((repeat' (with_reducible apply And.intro)) <;> first | assumption | rfl | omega | (exact wordQ_n p0 p1 (by assumption) rfl rfl) | (exact wordQ_p p0 p1 rfl (by assumption) (by assumption)) | (exact wordQ_w p0 p1 rfl (by assumption) (by omega) (by rw [if_pos (by assumption)]) (by assumption)) | (exact wordQ_w p0 p1 rfl (by assumption) (by omega) (by rw [if_neg (by assumption)]) (by assumption)) | (exact (enx_b p1).2.1) | (have := (enx_b (t := s.2 4) p1).1; omega) | grind [upI])
theorem vX3_wordTo_7_15 (s : MS) (a2 : Int) (hp : 0 ≤ (s.1 7) ∧ (s.1 7) ≤ (s.1 6) ∧ (s.1 6) ≤ 800 ∧ ((if (s.1 12) = 0 ∧ (s.1 8) = 1 then sortOf (s.1 11) else -1) = -1 ∨ (0 ≤ a2 ∧ a2 + 1 < 120)) ∧ (0 ≤ (s.2 6) 24 ∧ (s.2 6) 24 ≤ 100)) (c_2 : (if (s.1 12) = 0 ∧ (s.1 8) = 1 then sortOf (s.1 11) else -1) = (-1)) (c_35 : (if (s.1 12) = 0 then (1 : Int) else (s.1 12)) = 0) (o_36 : (0 ≤ (s.1 7) ∧ (s.1 7) ≤ (s.1 6) ∧ (s.1 6) ≤ 800)) (o_38 : (0 ≤ a2 ∧ a2 < 120)) (c_39 : ¬ (if (s.1 12) = 0 ∧ (s.1 8) = 1 then sortOf (s.1 11) else -1) = 14) (c_40 : (if (s.1 12) = 0 ∧ (s.1 8) = 1 then sortOf (s.1 11) else -1) < 12) : (0 ≤ (i32 (a2 + 1)) ∧ (i32 (a2 + 1)) < 120) := by
  obtain ⟨p0, p1, p2, p3, p4⟩ := hp
  (try simp only [bI_0, bI_n, Classical.not_not, Int.add_zero] at *)
  (try have p5 := p3.resolve_left c_2)
  (try simp (disch := omega) only [i32_id] at *)
  (try unfold lex3)
  (try simp only [bI_0, bI_n, Classical.not_not] at *)
  (try simp (disch := omega) only [i32_id] at *)
  first | done | omega | ((repeat' (with_reducible apply And.intro)) <;> first | assumption | rfl | omega | (exact wordQ_n p0 p1 (by assumption) rfl rfl) | (exact wordQ_p p0 p1 rfl (by assumption) (by assumption)) | (exact wordQ_w p0 p1 rfl (by assumption) (by omega) (by rw [if_pos (by assumption)]) (by assumption)) | (exact wordQ_w p0 p1 rfl (by assumption) (by omega) (by rw [if_neg (by assumption)]) (by assumption)) | (exact (enx_b p1).2.1) | (have := (enx_b (t := s.2 4) p1).1; omega) | grind [upI])
theorem vX3_wordTo_7_16 (s : MS) (a2 : Int) (hp : 0 ≤ (s.1 7) ∧ (s.1 7) ≤ (s.1 6) ∧ (s.1 6) ≤ 800 ∧ ((if (s.1 12) = 0 ∧ (s.1 8) = 1 then sortOf (s.1 11) else -1) = -1 ∨ (0 ≤ a2 ∧ a2 + 1 < 120)) ∧ (0 ≤ (s.2 6) 24 ∧ (s.2 6) 24 ≤ 100)) (c_2 : (if (s.1 12) = 0 ∧ (s.1 8) = 1 then sortOf (s.1 11) else -1) = (-1)) (c_35 : (if (s.1 12) = 0 then (1 : Int) else (s.1 12)) = 0) (o_36 : (0 ≤ (s.1 7) ∧ (s.1 7) ≤ (s.1 6) ∧ (s.1 6) ≤ 800)) (o_38 : (0 ≤ a2 ∧ a2 < 120)) (c_39 : ¬ (if (s.1 12) = 0 ∧ (s.1 8) = 1 then sortOf (s.1 11) else -1) = 14) (c_40 : (if (s.1 12) = 0 ∧ (s.1 8) = 1 then sortOf (s.1 11) else -1) < 12) (o_41 : (0 ≤ (i32 (a2 + 1)) ∧ (i32 (a2 + 1)) < 120)) : wordQ (s.2 4) (s.1 6) ((s.2 6) 24) (s.1 7) (s.1 8) (s.1 9) (s.1 10) (s.1 11) (s.1 12) (s.1 13) (s.2 7) (enx (s.2 4) (s.1 6) (s.1 7)) (knd (s.2 4) (s.1 6) (s.1 7)) (plc (s.2 4) (s.1 6) (s.1 7)) (vlu (s.2 4) (s.1 6) (s.1 7)) (wrd (s.2 4) (s.1 6) (s.1 7)) (if (s.1 12) = 0 then (1 : Int) else (s.1 12)) (if (s.1 12) = 0 then (s.1 9) else (s.1 13)) (upI (upI (s.2 7) a2 (if (s.1 12) = 0 ∧ (s.1 8) = 1 then sortOf (s.1 11) else -1)) (i32 (a2 + 1)) (-1)) a2 := by
  obtain ⟨p0, p1, p2, p3, p4⟩ := hp
  (try simp only [bI_0, bI_n, Classical.not_not, Int.add_zero] at *)
  (try have p5 := p3.resolve_left c_2)
  (try simp (disch := omega) only [i32_id] at *)
  (try unfold lex3)
  (try simp only [bI_0, bI_n, Classical.not_not] at *)
  (try simp (disch := omega) only [i32_id] at *)
  first | done | omega | ((repeat' (with_reducible apply And.intro)) <;> first | assumption | rfl | omega | (exact wordQ_n p0 p1 (by assumption) rfl rfl) | (exact wordQ_p p0 p1 rfl (by assumption) (by assumption)) | (exact wordQ_w p0 p1 rfl (by assumption) (by omega) (by rw [if_pos (by assumption)]) (by assumption)) | (exact wordQ_w p0 p1 rfl (by assumption) (by omega) (by rw [if_neg (by assumption)]) (by assumption)) | (exact (enx_b p1).2.1) | (have := (enx_b (t := s.2 4) p1).1; omega) | grind [upI])
theorem vX3_wordTo_7_17 (s : MS) (a2 : Int) (hp : 0 ≤ (s.1 7) ∧ (s.1 7) ≤ (s.1 6) ∧ (s.1 6) ≤ 800 ∧ ((if (s.1 12) = 0 ∧ (s.1 8) = 1 then sortOf (s.1 11) else -1) = -1 ∨ (0 ≤ a2 ∧ a2 + 1 < 120)) ∧ (0 ≤ (s.2 6) 24 ∧ (s.2 6) 24 ≤ 100)) (c_2 : (if (s.1 12) = 0 ∧ (s.1 8) = 1 then sortOf (s.1 11) else -1) = (-1)) (c_35 : (if (s.1 12) = 0 then (1 : Int) else (s.1 12)) = 0) (o_36 : (0 ≤ (s.1 7) ∧ (s.1 7) ≤ (s.1 6) ∧ (s.1 6) ≤ 800)) (o_38 : (0 ≤ a2 ∧ a2 < 120)) (c_39 : ¬ (if (s.1 12) = 0 ∧ (s.1 8) = 1 then sortOf (s.1 11) else -1) = 14) (c_40 : ¬ (if (s.1 12) = 0 ∧ (s.1 8) = 1 then sortOf (s.1 11) else -1) < 12) : (0 ≤ (enx (s.2 4) (s.1 6) (s.1 7)) ∧ (enx (s.2 4) (s.1 6) (s.1 7)) ≤ (s.1 6) ∧ (s.1 6) ≤ 800) := by
  obtain ⟨p0, p1, p2, p3, p4⟩ := hp
  (try simp only [bI_0, bI_n, Classical.not_not, Int.add_zero] at *)
  (try have p5 := p3.resolve_left c_2)
  (try simp (disch := omega) only [i32_id] at *)
  (try unfold lex3)
  (try simp only [bI_0, bI_n, Classical.not_not] at *)
  (try simp (disch := omega) only [i32_id] at *)
  first | done | omega | ((repeat' (with_reducible apply And.intro)) <;> first | assumption | rfl | omega | (exact wordQ_n p0 p1 (by assumption) rfl rfl) | (exact wordQ_p p0 p1 rfl (by assumption) (by assumption)) | (exact wordQ_w p0 p1 rfl (by assumption) (by omega) (by rw [if_pos (by assumption)]) (by assumption)) | (exact wordQ_w p0 p1 rfl (by assumption) (by omega) (by rw [if_neg (by assumption)]) (by assumption)) | (exact (enx_b p1).2.1) | (have := (enx_b (t := s.2 4) p1).1; omega) | grind [upI])
theorem vX3_wordTo_7_18 (s : MS) (a2 : Int) (hp : 0 ≤ (s.1 7) ∧ (s.1 7) ≤ (s.1 6) ∧ (s.1 6) ≤ 800 ∧ ((if (s.1 12) = 0 ∧ (s.1 8) = 1 then sortOf (s.1 11) else -1) = -1 ∨ (0 ≤ a2 ∧ a2 + 1 < 120)) ∧ (0 ≤ (s.2 6) 24 ∧ (s.2 6) 24 ≤ 100)) (c_2 : (if (s.1 12) = 0 ∧ (s.1 8) = 1 then sortOf (s.1 11) else -1) = (-1)) (c_35 : (if (s.1 12) = 0 then (1 : Int) else (s.1 12)) = 0) (o_36 : (0 ≤ (s.1 7) ∧ (s.1 7) ≤ (s.1 6) ∧ (s.1 6) ≤ 800)) (o_38 : (0 ≤ a2 ∧ a2 < 120)) (c_39 : ¬ (if (s.1 12) = 0 ∧ (s.1 8) = 1 then sortOf (s.1 11) else -1) = 14) (c_40 : ¬ (if (s.1 12) = 0 ∧ (s.1 8) = 1 then sortOf (s.1 11) else -1) < 12) (o_42 : (0 ≤ (enx (s.2 4) (s.1 6) (s.1 7)) ∧ (enx (s.2 4) (s.1 6) (s.1 7)) ≤ (s.1 6) ∧ (s.1 6) ≤ 800)) (k_43 : Int) (k_44 : Int) (k_45 : Int) (k_46 : Int) (k_47 : Int) (k_48 : Int) (k_49 : Int) (r_50 : Int) (q_51 : (numQ (s.2 4) (s.1 6) (0 : Int) (99 : Int) (enx (s.2 4) (s.1 6) (s.1 7)) (knd (s.2 4) (s.1 6) (s.1 7)) (plc (s.2 4) (s.1 6) (s.1 7)) (vlu (s.2 4) (s.1 6) (s.1 7)) (wrd (s.2 4) (s.1 6) (s.1 7)) (if (s.1 12) = 0 then (1 : Int) else (s.1 12)) (if (s.1 12) = 0 then (s.1 9) else (s.1 13)) k_43 k_44 k_45 k_46 k_47 k_48 k_49 r_50)) : (0 ≤ (i32 (a2 + 1)) ∧ (i32 (a2 + 1)) < 120) := by
  obtain ⟨p0, p1, p2, p3, p4⟩ := hp
  (try simp only [bI_0, bI_n, Classical.not_not, Int.add_zero] at *)
  (try have p5 := p3.resolve_left c_2)
  (try simp (disch := omega) only [i32_id] at *)
  (try unfold lex3)
  (try simp only [bI_0, bI_n, Classical.not_not] at *)
  (try simp (disch := omega) only [i32_id] at *)
  first | done | omega | ((repeat' (with_reducible apply And.intro)) <;> first | assumption | rfl | omega | (exact wordQ_n p0 p1 (by assumption) rfl rfl) | (exact wordQ_p p0 p1 rfl (by assumption) (by assumption)) | (exact wordQ_w p0 p1 rfl (by assumption) (by omega) (by rw [if_pos (by assumption)]) (by assumption)) | (exact wordQ_w p0 p1 rfl (by assumption) (by omega) (by rw [if_neg (by assumption)]) (by assumption)) | (exact (enx_b p1).2.1) | (have := (enx_b (t := s.2 4) p1).1; omega) | grind [upI])
theorem vX3_wordTo_7_19 (s : MS) (a2 : Int) (hp : 0 ≤ (s.1 7) ∧ (s.1 7) ≤ (s.1 6) ∧ (s.1 6) ≤ 800 ∧ ((if (s.1 12) = 0 ∧ (s.1 8) = 1 then sortOf (s.1 11) else -1) = -1 ∨ (0 ≤ a2 ∧ a2 + 1 < 120)) ∧ (0 ≤ (s.2 6) 24 ∧ (s.2 6) 24 ≤ 100)) (c_2 : (if (s.1 12) = 0 ∧ (s.1 8) = 1 then sortOf (s.1 11) else -1) = (-1)) (c_35 : (if (s.1 12) = 0 then (1 : Int) else (s.1 12)) = 0) (o_36 : (0 ≤ (s.1 7) ∧ (s.1 7) ≤ (s.1 6) ∧ (s.1 6) ≤ 800)) (o_38 : (0 ≤ a2 ∧ a2 < 120)) (c_39 : ¬ (if (s.1 12) = 0 ∧ (s.1 8) = 1 then sortOf (s.1 11) else -1) = 14) (c_40 : ¬ (if (s.1 12) = 0 ∧ (s.1 8) = 1 then sortOf (s.1 11) else -1) < 12) (o_42 : (0 ≤ (enx (s.2 4) (s.1 6) (s.1 7)) ∧ (enx (s.2 4) (s.1 6) (s.1 7)) ≤ (s.1 6) ∧ (s.1 6) ≤ 800)) (k_43 : Int) (k_44 : Int) (k_45 : Int) (k_46 : Int) (k_47 : Int) (k_48 : Int) (k_49 : Int) (r_50 : Int) (q_51 : (numQ (s.2 4) (s.1 6) (0 : Int) (99 : Int) (enx (s.2 4) (s.1 6) (s.1 7)) (knd (s.2 4) (s.1 6) (s.1 7)) (plc (s.2 4) (s.1 6) (s.1 7)) (vlu (s.2 4) (s.1 6) (s.1 7)) (wrd (s.2 4) (s.1 6) (s.1 7)) (if (s.1 12) = 0 then (1 : Int) else (s.1 12)) (if (s.1 12) = 0 then (s.1 9) else (s.1 13)) k_43 k_44 k_45 k_46 k_47 k_48 k_49 r_50)) (o_52 : (0 ≤ (i32 (a2 + 1)) ∧ (i32 (a2 + 1)) < 120)) : wordQ (s.2 4) (s.1 6) ((s.2 6) 24) (s.1 7) (s.1 8) (s.1 9) (s.1 10) (s.1 11) (s.1 12) (s.1 13) (s.2 7) k_43 k_44 k_45 k_46 k_47 k_48 k_49 (upI (upI (s.2 7) a2 (if (s.1 12) = 0 ∧ (s.1 8) = 1 then sortOf (s.1 11) else -1)) (i32 (a2 + 1)) r_50) a2 := by
  obtain ⟨p0, p1, p2, p3, p4⟩ := hp
  (try simp only [bI_0, bI_n, Classical.not_not, Int.add_zero] at *)
  (try have p5 := p3.resolve_left c_2)
  (try simp (disch := omega) only [i32_id] at *)
  (try unfold lex3)
  (try simp only [bI_0, bI_n, Classical.not_not] at *)
  (try simp (disch := omega) only [i32_id] at *)
  first | done | omega | ((repeat' (with_reducible apply And.intro)) <;> first | assumption | rfl | omega | (exact wordQ_n p0 p1 (by assumption) rfl rfl) | (exact wordQ_p p0 p1 rfl (by assumption) (by assumption)) | (exact wordQ_w p0 p1 rfl (by assumption) (by omega) (by rw [if_pos (by assumption)]) (by assumption)) | (exact wordQ_w p0 p1 rfl (by assumption) (by omega) (by rw [if_neg (by assumption)]) (by assumption)) | (exact (enx_b p1).2.1) | (have := (enx_b (t := s.2 4) p1).1; omega) | grind [upI])
theorem vX3_wordTo_7_20 (s : MS) (a2 : Int) (hp : 0 ≤ (s.1 7) ∧ (s.1 7) ≤ (s.1 6) ∧ (s.1 6) ≤ 800 ∧ ((if (s.1 12) = 0 ∧ (s.1 8) = 1 then sortOf (s.1 11) else -1) = -1 ∨ (0 ≤ a2 ∧ a2 + 1 < 120)) ∧ (0 ≤ (s.2 6) 24 ∧ (s.2 6) 24 ≤ 100)) (c_2 : (if (s.1 12) = 0 ∧ (s.1 8) = 1 then sortOf (s.1 11) else -1) = (-1)) (c_35 : (if (s.1 12) = 0 then (1 : Int) else (s.1 12)) = 0) (o_36 : (0 ≤ (s.1 7) ∧ (s.1 7) ≤ (s.1 6) ∧ (s.1 6) ≤ 800)) (o_38 : (0 ≤ a2 ∧ a2 < 120)) (c_39 : (if (s.1 12) = 0 ∧ (s.1 8) = 1 then sortOf (s.1 11) else -1) = 14) : (0 ≤ (0 : Int) ∧ (0 : Int) < 6) := by
  obtain ⟨p0, p1, p2, p3, p4⟩ := hp
  (try simp only [bI_0, bI_n, Classical.not_not, Int.add_zero] at *)
  (try have p5 := p3.resolve_left c_2)
  (try simp (disch := omega) only [i32_id] at *)
  (try unfold lex3)
  (try simp only [bI_0, bI_n, Classical.not_not] at *)
  (try simp (disch := omega) only [i32_id] at *)
  first | done | omega | ((repeat' (with_reducible apply And.intro)) <;> first | assumption | rfl | omega | (exact wordQ_n p0 p1 (by assumption) rfl rfl) | (exact wordQ_p p0 p1 rfl (by assumption) (by assumption)) | (exact wordQ_w p0 p1 rfl (by assumption) (by omega) (by rw [if_pos (by assumption)]) (by assumption)) | (exact wordQ_w p0 p1 rfl (by assumption) (by omega) (by rw [if_neg (by assumption)]) (by assumption)) | (exact (enx_b p1).2.1) | (have := (enx_b (t := s.2 4) p1).1; omega) | grind [upI])
theorem vX3_wordTo_7_21 (s : MS) (a2 : Int) (hp : 0 ≤ (s.1 7) ∧ (s.1 7) ≤ (s.1 6) ∧ (s.1 6) ≤ 800 ∧ ((if (s.1 12) = 0 ∧ (s.1 8) = 1 then sortOf (s.1 11) else -1) = -1 ∨ (0 ≤ a2 ∧ a2 + 1 < 120)) ∧ (0 ≤ (s.2 6) 24 ∧ (s.2 6) 24 ≤ 100)) (c_2 : (if (s.1 12) = 0 ∧ (s.1 8) = 1 then sortOf (s.1 11) else -1) = (-1)) (c_35 : (if (s.1 12) = 0 then (1 : Int) else (s.1 12)) = 0) (o_36 : (0 ≤ (s.1 7) ∧ (s.1 7) ≤ (s.1 6) ∧ (s.1 6) ≤ 800)) (o_38 : (0 ≤ a2 ∧ a2 < 120)) (c_39 : (if (s.1 12) = 0 ∧ (s.1 8) = 1 then sortOf (s.1 11) else -1) = 14) (o_53 : (0 ≤ (0 : Int) ∧ (0 : Int) < 6)) : (0 ≤ (enx (s.2 4) (s.1 6) (s.1 7)) ∧ (enx (s.2 4) (s.1 6) (s.1 7)) ≤ (s.1 6) ∧ (s.1 6) ≤ 800) := by
  obtain ⟨p0, p1, p2, p3, p4⟩ := hp
  (try simp only [bI_0, bI_n, Classical.not_not, Int.add_zero] at *)
  (try have p5 := p3.resolve_left c_2)
  (try simp (disch := omega) only [i32_id] at *)
  (try unfold lex3)
  (try simp only [bI_0, bI_n, Classical.not_not] at *)
  (try simp (disch := omega) only [i32_id] at *)
  first | done | omega | ((repeat' (with_reducible apply And.intro)) <;> first | assumption | rfl | omega | (exact wordQ_n p0 p1 (by assumption) rfl rfl) | (exact wordQ_p p0 p1 rfl (by assumption) (by assumption)) | (exact wordQ_w p0 p1 rfl (by assumption) (by omega) (by rw [if_pos (by assumption)]) (by assumption)) | (exact wordQ_w p0 p1 rfl (by assumption) (by omega) (by rw [if_neg (by assumption)]) (by assumption)) | (exact (enx_b p1).2.1) | (have := (enx_b (t := s.2 4) p1).1; omega) | grind [upI])
theorem vX3_wordTo_7_22 (s : MS) (a2 : Int) (hp : 0 ≤ (s.1 7) ∧ (s.1 7) ≤ (s.1 6) ∧ (s.1 6) ≤ 800 ∧ ((if (s.1 12) = 0 ∧ (s.1 8) = 1 then sortOf (s.1 11) else -1) = -1 ∨ (0 ≤ a2 ∧ a2 + 1 < 120)) ∧ (0 ≤ (s.2 6) 24 ∧ (s.2 6) 24 ≤ 100)) (c_2 : (if (s.1 12) = 0 ∧ (s.1 8) = 1 then sortOf (s.1 11) else -1) = (-1)) (c_35 : (if (s.1 12) = 0 then (1 : Int) else (s.1 12)) = 0) (o_36 : (0 ≤ (s.1 7) ∧ (s.1 7) ≤ (s.1 6) ∧ (s.1 6) ≤ 800)) (o_38 : (0 ≤ a2 ∧ a2 < 120)) (c_39 : (if (s.1 12) = 0 ∧ (s.1 8) = 1 then sortOf (s.1 11) else -1) = 14) (o_53 : (0 ≤ (0 : Int) ∧ (0 : Int) < 6)) (o_55 : (0 ≤ (enx (s.2 4) (s.1 6) (s.1 7)) ∧ (enx (s.2 4) (s.1 6) (s.1 7)) ≤ (s.1 6) ∧ (s.1 6) ≤ 800)) (k_56 : Int) (k_57 : Int) (k_58 : Int) (k_59 : Int) (k_60 : Int) (k_61 : Int) (k_62 : Int) (r_63 : Int) (q_64 : (numQ (s.2 4) (s.1 6) (0 : Int) (i32 (((s.2 6) (24 + (0 : Int))) - 1)) (enx (s.2 4) (s.1 6) (s.1 7)) (knd (s.2 4) (s.1 6) (s.1 7)) (plc (s.2 4) (s.1 6) (s.1 7)) (vlu (s.2 4) (s.1 6) (s.1 7)) (wrd (s.2 4) (s.1 6) (s.1 7)) (if (s.1 12) = 0 then (1 : Int) else (s.1 12)) (if (s.1 12) = 0 then (s.1 9) else (s.1 13)) k_56 k_57 k_58 k_59 k_60 k_61 k_62 r_63)) : (0 ≤ (i32 (a2 + 1)) ∧ (i32 (a2 + 1)) < 120) := by
  obtain ⟨p0, p1, p2, p3, p4⟩ := hp
  (try simp only [bI_0, bI_n, Classical.not_not, Int.add_zero] at *)
  (try have p5 := p3.resolve_left c_2)
  (try simp (disch := omega) only [i32_id] at *)
  (try unfold lex3)
  (try simp only [bI_0, bI_n, Classical.not_not] at *)
  (try simp (disch := omega) only [i32_id] at *)
  first | done | omega | ((repeat' (with_reducible apply And.intro)) <;> first | assumption | rfl | omega | (exact wordQ_n p0 p1 (by assumption) rfl rfl) | (exact wordQ_p p0 p1 rfl (by assumption) (by assumption)) | (exact wordQ_w p0 p1 rfl (by assumption) (by omega) (by rw [if_pos (by assumption)]) (by assumption)) | (exact wordQ_w p0 p1 rfl (by assumption) (by omega) (by rw [if_neg (by assumption)]) (by assumption)) | (exact (enx_b p1).2.1) | (have := (enx_b (t := s.2 4) p1).1; omega) | grind [upI])
theorem vX3_wordTo_7_23 (s : MS) (a2 : Int) (hp : 0 ≤ (s.1 7) ∧ (s.1 7) ≤ (s.1 6) ∧ (s.1 6) ≤ 800 ∧ ((if (s.1 12) = 0 ∧ (s.1 8) = 1 then sortOf (s.1 11) else -1) = -1 ∨ (0 ≤ a2 ∧ a2 + 1 < 120)) ∧ (0 ≤ (s.2 6) 24 ∧ (s.2 6) 24 ≤ 100)) (c_2 : (if (s.1 12) = 0 ∧ (s.1 8) = 1 then sortOf (s.1 11) else -1) = (-1)) (c_35 : (if (s.1 12) = 0 then (1 : Int) else (s.1 12)) = 0) (o_36 : (0 ≤ (s.1 7) ∧ (s.1 7) ≤ (s.1 6) ∧ (s.1 6) ≤ 800)) (o_38 : (0 ≤ a2 ∧ a2 < 120)) (c_39 : (if (s.1 12) = 0 ∧ (s.1 8) = 1 then sortOf (s.1 11) else -1) = 14) (o_53 : (0 ≤ (0 : Int) ∧ (0 : Int) < 6)) (o_55 : (0 ≤ (enx (s.2 4) (s.1 6) (s.1 7)) ∧ (enx (s.2 4) (s.1 6) (s.1 7)) ≤ (s.1 6) ∧ (s.1 6) ≤ 800)) (k_56 : Int) (k_57 : Int) (k_58 : Int) (k_59 : Int) (k_60 : Int) (k_61 : Int) (k_62 : Int) (r_63 : Int) (q_64 : (numQ (s.2 4) (s.1 6) (0 : Int) (i32 (((s.2 6) (24 + (0 : Int))) - 1)) (enx (s.2 4) (s.1 6) (s.1 7)) (knd (s.2 4) (s.1 6) (s.1 7)) (plc (s.2 4) (s.1 6) (s.1 7)) (vlu (s.2 4) (s.1 6) (s.1 7)) (wrd (s.2 4) (s.1 6) (s.1 7)) (if (s.1 12) = 0 then (1 : Int) else (s.1 12)) (if (s.1 12) = 0 then (s.1 9) else (s.1 13)) k_56 k_57 k_58 k_59 k_60 k_61 k_62 r_63)) (o_65 : (0 ≤ (i32 (a2 + 1)) ∧ (i32 (a2 + 1)) < 120)) : wordQ (s.2 4) (s.1 6) ((s.2 6) 24) (s.1 7) (s.1 8) (s.1 9) (s.1 10) (s.1 11) (s.1 12) (s.1 13) (s.2 7) k_56 k_57 k_58 k_59 k_60 k_61 k_62 (upI (upI (s.2 7) a2 (if (s.1 12) = 0 ∧ (s.1 8) = 1 then sortOf (s.1 11) else -1)) (i32 (a2 + 1)) r_63) a2 := by
  obtain ⟨p0, p1, p2, p3, p4⟩ := hp
  (try simp only [bI_0, bI_n, Classical.not_not, Int.add_zero] at *)
  (try have p5 := p3.resolve_left c_2)
  (try simp (disch := omega) only [i32_id] at *)
  (try unfold lex3)
  (try simp only [bI_0, bI_n, Classical.not_not] at *)
  (try simp (disch := omega) only [i32_id] at *)
  first | done | omega | ((repeat' (with_reducible apply And.intro)) <;> first | assumption | rfl | omega | (exact wordQ_n p0 p1 (by assumption) rfl rfl) | (exact wordQ_p p0 p1 rfl (by assumption) (by assumption)) | (exact wordQ_w p0 p1 rfl (by assumption) (by omega) (by rw [if_pos (by assumption)]) (by assumption)) | (exact wordQ_w p0 p1 rfl (by assumption) (by omega) (by rw [if_neg (by assumption)]) (by assumption)) | (exact (enx_b p1).2.1) | (have := (enx_b (t := s.2 4) p1).1; omega) | grind [upI])
theorem vX3_wordTo_7_24 (s : MS) (a2 : Int) (hp : 0 ≤ (s.1 7) ∧ (s.1 7) ≤ (s.1 6) ∧ (s.1 6) ≤ 800 ∧ ((if (s.1 12) = 0 ∧ (s.1 8) = 1 then sortOf (s.1 11) else -1) = -1 ∨ (0 ≤ a2 ∧ a2 + 1 < 120)) ∧ (0 ≤ (s.2 6) 24 ∧ (s.2 6) 24 ≤ 100)) (c_2 : (if (s.1 12) = 0 ∧ (s.1 8) = 1 then sortOf (s.1 11) else -1) = (-1)) (c_35 : ¬ (if (s.1 12) = 0 then (1 : Int) else (s.1 12)) = 0) : wordQ (s.2 4) (s.1 6) ((s.2 6) 24) (s.1 7) (s.1 8) (s.1 9) (s.1 10) (s.1 11) (s.1 12) (s.1 13) (s.2 7) (s.1 7) (s.1 8) (s.1 9) (s.1 10) (s.1 11) (if (s.1 12) = 0 then (1 : Int) else (s.1 12)) (if (s.1 12) = 0 then (s.1 9) else (s.1 13)) (s.2 7) a2 := by
  obtain ⟨p0, p1, p2, p3, p4⟩ := hp
  (try simp only [bI_0, bI_n, Classical.not_not, Int.add_zero] at *)
  (try have p5 := p3.resolve_left c_2)
  (try simp (disch := omega) only [i32_id] at *)
  (try unfold lex3)
  (try simp only [bI_0, bI_n, Classical.not_not] at *)
  (try simp (disch := omega) only [i32_id] at *)
  first | done | omega | ((repeat' (with_reducible apply And.intro)) <;> first | assumption | rfl | omega | (exact wordQ_n p0 p1 (by assumption) rfl rfl) | (exact wordQ_p p0 p1 rfl (by assumption) (by assumption)) | (exact wordQ_w p0 p1 rfl (by assumption) (by omega) (by rw [if_pos (by assumption)]) (by assumption)) | (exact wordQ_w p0 p1 rfl (by assumption) (by omega) (by rw [if_neg (by assumption)]) (by assumption)) | (exact (enx_b p1).2.1) | (have := (enx_b (t := s.2 4) p1).1; omega) | grind [upI])
theorem ctX3_wordTo_7 (b : AH) (s : MS) (a2 : Int) (hp : 0 ≤ (s.1 7) ∧ (s.1 7) ≤ (s.1 6) ∧ (s.1 6) ≤ 800 ∧ ((if (s.1 12) = 0 ∧ (s.1 8) = 1 then sortOf (s.1 11) else -1) = -1 ∨ (0 ≤ a2 ∧ a2 + 1 < 120)) ∧ (0 ≤ (s.2 6) 24 ∧ (s.2 6) 24 ≤ 100)) : MC mX3_wordTo 5 b s [vR 359, vI a2] (QX3_wordTo_7 s a2) := by
  refine MC.of (by decide) rfl (Nat.le_of_ble_eq_true rfl) (JW.steq (s2 := sS (sS (sS (sS (sS (sS (sS (sA s 7 (s.2 7)) 7 (s.1 7)) 8 (s.1 8)) 9 (s.1 9)) 10 (s.1 10)) 11 (s.1 11)) 12 (s.1 12)) 13 (s.1 13)) (by simp only [sA_id, sS_id]) ?_)
  refine bX3_wordTo_7_0 b s a2 (s.2 7) (s.1 7) (s.1 8) (s.1 9) (s.1 10) (s.1 11) (s.1 12) (s.1 13) ?_
  refine ⟨fun c_2 => ?_, fun c_2 => ?_⟩
  · refine ⟨fun c_3 => ?_, fun c_3 => ?_⟩
    · have o_4 : (0 ≤ (s.1 7) ∧ (s.1 7) ≤ (s.1 6) ∧ (s.1 6) ≤ 800) := (vX3_wordTo_7_1 s a2 hp c_2 c_3)
      refine ⟨o_4, ?_⟩
      have o_6 : (0 ≤ a2 ∧ a2 < 120) := (vX3_wordTo_7_2 s a2 hp c_2 c_3 o_4)
      refine ⟨o_6, ?_⟩
      refine ⟨fun c_7 => ?_, fun c_7 => ?_⟩
      · refine ⟨fun c_8 => ?_, fun c_8 => ?_⟩
        · have o_9 : (0 ≤ (i32 (a2 + 1)) ∧ (i32 (a2 + 1)) < 120) := (vX3_wordTo_7_3 s a2 hp c_2 c_3 o_4 o_6 c_7 c_8)
          refine ⟨o_9, ?_⟩
          exact ⟨(upI (upI (s.2 7) a2 (if (s.1 12) = 0 ∧ (s.1 8) = 1 then sortOf (s.1 11) else -1)) (i32 (a2 + 1)) (-1)), (enx (s.2 4) (s.1 6) (s.1 7)), (knd (s.2 4) (s.1 6) (s.1 7)), (plc (s.2 4) (s.1 6) (s.1 7)), (vlu (s.2 4) (s.1 6) (s.1 7)), (wrd (s.2 4) (s.1 6) (s.1 7)), (s.1 12), (s.1 13), rfl, rfl, (vX3_wordTo_7_4 s a2 hp c_2 c_3 o_4 o_6 c_7 c_8 o_9)⟩
        · have o_10 : (0 ≤ (enx (s.2 4) (s.1 6) (s.1 7)) ∧ (enx (s.2 4) (s.1 6) (s.1 7)) ≤ (s.1 6) ∧ (s.1 6) ≤ 800) := (vX3_wordTo_7_5 s a2 hp c_2 c_3 o_4 o_6 c_7 c_8)
          refine ⟨o_10, ?_⟩
          intro k_11 k_12 k_13 k_14 k_15 k_16 k_17 r_18 q_19
          have o_20 : (0 ≤ (i32 (a2 + 1)) ∧ (i32 (a2 + 1)) < 120) := (vX3_wordTo_7_6 s a2 hp c_2 c_3 o_4 o_6 c_7 c_8 o_10 k_11 k_12 k_13 k_14 k_15 k_16 k_17 r_18 q_19)
          refine ⟨o_20, ?_⟩
          exact ⟨(upI (upI (s.2 7) a2 (if (s.1 12) = 0 ∧ (s.1 8) = 1 then sortOf (s.1 11) else -1)) (i32 (a2 + 1)) r_18), k_11, k_12, k_13, k_14, k_15, k_16, k_17, rfl, rfl, (vX3_wordTo_7_7 s a2 hp c_2 c_3 o_4 o_6 c_7 c_8 o_10 k_11 k_12 k_13 k_14 k_15 k_16 k_17 r_18 q_19 o_20)⟩
      · have o_21 : (0 ≤ (0 : Int) ∧ (0 : Int) < 6) := (vX3_wordTo_7_8 s a2 hp c_2 c_3 o_4 o_6 c_7)
        refine ⟨o_21, ?_⟩
        have o_23 : (0 ≤ (enx (s.2 4) (s.1 6) (s.1 7)) ∧ (enx (s.2 4) (s.1 6) (s.1 7)) ≤ (s.1 6) ∧ (s.1 6) ≤ 800) := (vX3_wordTo_7_9 s a2 hp c_2 c_3 o_4 o_6 c_7 o_21)
        refine ⟨o_23, ?_⟩
        intro k_24 k_25 k_26 k_27 k_28 k_29 k_30 r_31 q_32
        have o_33 : (0 ≤ (i32 (a2 + 1)) ∧ (i32 (a2 + 1)) < 120) := (vX3_wordTo_7_10 s a2 hp c_2 c_3 o_4 o_6 c_7 o_21 o_23 k_24 k_25 k_26 k_27 k_28 k_29 k_30 r_31 q_32)
        refine ⟨o_33, ?_⟩
        exact ⟨(upI (upI (s.2 7) a2 (if (s.1 12) = 0 ∧ (s.1 8) = 1 then sortOf (s.1 11) else -1)) (i32 (a2 + 1)) r_31), k_24, k_25, k_26, k_27, k_28, k_29, k_30, rfl, rfl, (vX3_wordTo_7_11 s a2 hp c_2 c_3 o_4 o_6 c_7 o_21 o_23 k_24 k_25 k_26 k_27 k_28 k_29 k_30 r_31 q_32 o_33)⟩
    · exact ⟨(s.2 7), (s.1 7), (s.1 8), (s.1 9), (s.1 10), (s.1 11), (s.1 12), (s.1 13), rfl, rfl, (vX3_wordTo_7_12 s a2 hp c_2 c_3)⟩
  · refine ⟨fun c_35 => ?_, fun c_35 => ?_⟩
    · have o_36 : (0 ≤ (s.1 7) ∧ (s.1 7) ≤ (s.1 6) ∧ (s.1 6) ≤ 800) := (vX3_wordTo_7_13 s a2 hp c_2 c_35)
      refine ⟨o_36, ?_⟩
      have o_38 : (0 ≤ a2 ∧ a2 < 120) := (vX3_wordTo_7_14 s a2 hp c_2 c_35 o_36)
      refine ⟨o_38, ?_⟩
      refine ⟨fun c_39 => ?_, fun c_39 => ?_⟩
      · refine ⟨fun c_40 => ?_, fun c_40 => ?_⟩
        · have o_41 : (0 ≤ (i32 (a2 + 1)) ∧ (i32 (a2 + 1)) < 120) := (vX3_wordTo_7_15 s a2 hp c_2 c_35 o_36 o_38 c_39 c_40)
          refine ⟨o_41, ?_⟩
          exact ⟨(upI (upI (s.2 7) a2 (if (s.1 12) = 0 ∧ (s.1 8) = 1 then sortOf (s.1 11) else -1)) (i32 (a2 + 1)) (-1)), (enx (s.2 4) (s.1 6) (s.1 7)), (knd (s.2 4) (s.1 6) (s.1 7)), (plc (s.2 4) (s.1 6) (s.1 7)), (vlu (s.2 4) (s.1 6) (s.1 7)), (wrd (s.2 4) (s.1 6) (s.1 7)), (if (s.1 12) = 0 then (1 : Int) else (s.1 12)), (if (s.1 12) = 0 then (s.1 9) else (s.1 13)), rfl, rfl, (vX3_wordTo_7_16 s a2 hp c_2 c_35 o_36 o_38 c_39 c_40 o_41)⟩
        · have o_42 : (0 ≤ (enx (s.2 4) (s.1 6) (s.1 7)) ∧ (enx (s.2 4) (s.1 6) (s.1 7)) ≤ (s.1 6) ∧ (s.1 6) ≤ 800) := (vX3_wordTo_7_17 s a2 hp c_2 c_35 o_36 o_38 c_39 c_40)
          refine ⟨o_42, ?_⟩
          intro k_43 k_44 k_45 k_46 k_47 k_48 k_49 r_50 q_51
          have o_52 : (0 ≤ (i32 (a2 + 1)) ∧ (i32 (a2 + 1)) < 120) := (vX3_wordTo_7_18 s a2 hp c_2 c_35 o_36 o_38 c_39 c_40 o_42 k_43 k_44 k_45 k_46 k_47 k_48 k_49 r_50 q_51)
          refine ⟨o_52, ?_⟩
          exact ⟨(upI (upI (s.2 7) a2 (if (s.1 12) = 0 ∧ (s.1 8) = 1 then sortOf (s.1 11) else -1)) (i32 (a2 + 1)) r_50), k_43, k_44, k_45, k_46, k_47, k_48, k_49, rfl, rfl, (vX3_wordTo_7_19 s a2 hp c_2 c_35 o_36 o_38 c_39 c_40 o_42 k_43 k_44 k_45 k_46 k_47 k_48 k_49 r_50 q_51 o_52)⟩
      · have o_53 : (0 ≤ (0 : Int) ∧ (0 : Int) < 6) := (vX3_wordTo_7_20 s a2 hp c_2 c_35 o_36 o_38 c_39)
        refine ⟨o_53, ?_⟩
        have o_55 : (0 ≤ (enx (s.2 4) (s.1 6) (s.1 7)) ∧ (enx (s.2 4) (s.1 6) (s.1 7)) ≤ (s.1 6) ∧ (s.1 6) ≤ 800) := (vX3_wordTo_7_21 s a2 hp c_2 c_35 o_36 o_38 c_39 o_53)
        refine ⟨o_55, ?_⟩
        intro k_56 k_57 k_58 k_59 k_60 k_61 k_62 r_63 q_64
        have o_65 : (0 ≤ (i32 (a2 + 1)) ∧ (i32 (a2 + 1)) < 120) := (vX3_wordTo_7_22 s a2 hp c_2 c_35 o_36 o_38 c_39 o_53 o_55 k_56 k_57 k_58 k_59 k_60 k_61 k_62 r_63 q_64)
        refine ⟨o_65, ?_⟩
        exact ⟨(upI (upI (s.2 7) a2 (if (s.1 12) = 0 ∧ (s.1 8) = 1 then sortOf (s.1 11) else -1)) (i32 (a2 + 1)) r_63), k_56, k_57, k_58, k_59, k_60, k_61, k_62, rfl, rfl, (vX3_wordTo_7_23 s a2 hp c_2 c_35 o_36 o_38 c_39 o_53 o_55 k_56 k_57 k_58 k_59 k_60 k_61 k_62 r_63 q_64 o_65)⟩
    · exact ⟨(s.2 7), (s.1 7), (s.1 8), (s.1 9), (s.1 10), (s.1 11), (if (s.1 12) = 0 then (1 : Int) else (s.1 12)), (if (s.1 12) = 0 then (s.1 9) else (s.1 13)), rfl, rfl, (vX3_wordTo_7_24 s a2 hp c_2 c_35)⟩
def HX3_wordTo_8_0 (Q : Option AV → MS → Prop) (b : AH) (s : MS) (x2 : Int) (f8 : Int → Int) (k7 : Int) (k8 : Int) (k9 : Int) (k10 : Int) (k11 : Int) (k12 : Int) (k13 : Int) : Prop := MW mX3_wordTo 5 Q b 0 [(0, vR 351), (1, vR 360), (2, vI x2)] [] (sS (sS (sS (sS (sS (sS (sS (sA s 8 f8) 7 k7) 8 k8) 9 k9) 10 k10) 11 k11) 12 k12) 13 k13)
theorem bX3_wordTo_8_0 {Q : Option AV → MS → Prop} (b : AH) (s : MS) (x2 : Int) (f8 : Int → Int) (k7 : Int) (k8 : Int) (k9 : Int) (k10 : Int) (k11 : Int) (k12 : Int) (k13 : Int) (K : (¬ (if k12 = 0 ∧ k8 = 1 then sortOf k11 else -1) = (-1) → (k12 = 0 → (0 ≤ k7 ∧ k7 ≤ (s.1 6) ∧ (s.1 6) ≤ 800) ∧ ((0 ≤ x2 ∧ x2 < 120) ∧ ((¬ (if k12 = 0 ∧ k8 = 1 then sortOf k11 else -1) = 14 → ((if k12 = 0 ∧ k8 = 1 then sortOf k11 else -1) < 12 → (0 ≤ (i32 (x2 + 1)) ∧ (i32 (x2 + 1)) < 120) ∧ (Q none (sS (sS (sS (sS (sS (sS (sS (sA s 8 (upI (upI f8 x2 (if k12 = 0 ∧ k8 = 1 then sortOf k11 else -1)) (i32 (x2 + 1)) (-1))) 7 (enx (s.2 4) (s.1 6) k7)) 8 (knd (s.2 4) (s.1 6) k7)) 9 (plc (s.2 4) (s.1 6) k7)) 10 (vlu (s.2 4) (s.1 6) k7)) 11 (wrd (s.2 4) (s.1 6) k7)) 12 k12) 13 k13))) ∧ (¬ (if k12 = 0 ∧ k8 = 1 then sortOf k11 else -1) < 12 → (0 ≤ (enx (s.2 4) (s.1 6) k7) ∧ (enx (s.2 4) (s.1 6) k7) ≤ (s.1 6) ∧ (s.1 6) ≤ 800) ∧ ((∀ (k_11 : Int) (k_12 : Int) (k_13 : Int) (k_14 : Int) (k_15 : Int) (k_16 : Int) (k_17 : Int) (r_18 : Int), (numQ (s.2 4) (s.1 6) (0 : Int) (99 : Int) (enx (s.2 4) (s.1 6) k7) (knd (s.2 4) (s.1 6) k7) (plc (s.2 4) (s.1 6) k7) (vlu (s.2 4) (s.1 6) k7) (wrd (s.2 4) (s.1 6) k7) k12 k13 k_11 k_12 k_13 k_14 k_15 k_16 k_17 r_18) → (0 ≤ (i32 (x2 + 1)) ∧ (i32 (x2 + 1)) < 120) ∧ (Q none (sS (sS (sS (sS (sS (sS (sS (sA s 8 (upI (upI f8 x2 (if k12 = 0 ∧ k8 = 1 then sortOf k11 else -1)) (i32 (x2 + 1)) r_18)) 7 k_11) 8 k_12) 9 k_13) 10 k_14) 11 k_15) 12 k_16) 13 k_17)))))) ∧ ((if k12 = 0 ∧ k8 = 1 then sortOf k11 else -1) = 14 → (0 ≤ (0 : Int) ∧ (0 : Int) < 6) ∧ ((0 ≤ (enx (s.2 4) (s.1 6) k7) ∧ (enx (s.2 4) (s.1 6) k7) ≤ (s.1 6) ∧ (s.1 6) ≤ 800) ∧ ((∀ (k_24 : Int) (k_25 : Int) (k_26 : Int) (k_27 : Int) (k_28 : Int) (k_29 : Int) (k_30 : Int) (r_31 : Int), (numQ (s.2 4) (s.1 6) (0 : Int) (i32 (((s.2 6) (24 + (0 : Int))) - 1)) (enx (s.2 4) (s.1 6) k7) (knd (s.2 4) (s.1 6) k7) (plc (s.2 4) (s.1 6) k7) (vlu (s.2 4) (s.1 6) k7) (wrd (s.2 4) (s.1 6) k7) k12 k13 k_24 k_25 k_26 k_27 k_28 k_29 k_30 r_31) → (0 ≤ (i32 (x2 + 1)) ∧ (i32 (x2 + 1)) < 120) ∧ (Q none (sS (sS (sS (sS (sS (sS (sS (sA s 8 (upI (upI f8 x2 (if k12 = 0 ∧ k8 = 1 then sortOf k11 else -1)) (i32 (x2 + 1)) r_31)) 7 k_24) 8 k_25) 9 k_26) 10 k_27) 11 k_28) 12 k_29) 13 k_30))))))))) ∧ (¬ k12 = 0 → Q none (sS (sS (sS (sS (sS (sS (sS (sA s 8 f8) 7 k7) 8 k8) 9 k9) 10 k10) 11 k11) 12 k12) 13 k13))) ∧ ((if k12 = 0 ∧ k8 = 1 then sortOf k11 else -1) = (-1) → ((if k12 = 0 then (1 : Int) else k12) = 0 → (0 ≤ k7 ∧ k7 ≤ (s.1 6) ∧ (s.1 6) ≤ 800) ∧ ((0 ≤ x2 ∧ x2 < 120) ∧ ((¬ (if k12 = 0 ∧ k8 = 1 then sortOf k11 else -1) = 14 → ((if k12 = 0 ∧ k8 = 1 then sortOf k11 else -1) < 12 → (0 ≤ (i32 (x2 + 1)) ∧ (i32 (x2 + 1)) < 120) ∧ (Q none (sS (sS (sS (sS (sS (sS (sS (sA s 8 (upI (upI f8 x2 (if k12 = 0 ∧ k8 = 1 then sortOf k11 else -1)) (i32 (x2 + 1)) (-1))) 7 (enx (s.2 4) (s.1 6) k7)) 8 (knd (s.2 4) (s.1 6) k7)) 9 (plc (s.2 4) (s.1 6) k7)) 10 (vlu (s.2 4) (s.1 6) k7)) 11 (wrd (s.2 4) (s.1 6) k7)) 12 (if k12 = 0 then (1 : Int) else k12)) 13 (if k12 = 0 then k9 else k13)))) ∧ (¬ (if k12 = 0 ∧ k8 = 1 then sortOf k11 else -1) < 12 → (0 ≤ (enx (s.2 4) (s.1 6) k7) ∧ (enx (s.2 4) (s.1 6) k7) ≤ (s.1 6) ∧ (s.1 6) ≤ 800) ∧ ((∀ (k_43 : Int) (k_44 : Int) (k_45 : Int) (k_46 : Int) (k_47 : Int) (k_48 : Int) (k_49 : Int) (r_50 : Int), (numQ (s.2 4) (s.1 6) (0 : Int) (99 : Int) (enx (s.2 4) (s.1 6) k7) (knd (s.2 4) (s.1 6) k7) (plc (s.2 4) (s.1 6) k7) (vlu (s.2 4) (s.1 6) k7) (wrd (s.2 4) (s.1 6) k7) (if k12 = 0 then (1 : Int) else k12) (if k12 = 0 then k9 else k13) k_43 k_44 k_45 k_46 k_47 k_48 k_49 r_50) → (0 ≤ (i32 (x2 + 1)) ∧ (i32 (x2 + 1)) < 120) ∧ (Q none (sS (sS (sS (sS (sS (sS (sS (sA s 8 (upI (upI f8 x2 (if k12 = 0 ∧ k8 = 1 then sortOf k11 else -1)) (i32 (x2 + 1)) r_50)) 7 k_43) 8 k_44) 9 k_45) 10 k_46) 11 k_47) 12 k_48) 13 k_49)))))) ∧ ((if k12 = 0 ∧ k8 = 1 then sortOf k11 else -1) = 14 → (0 ≤ (0 : Int) ∧ (0 : Int) < 6) ∧ ((0 ≤ (enx (s.2 4) (s.1 6) k7) ∧ (enx (s.2 4) (s.1 6) k7) ≤ (s.1 6) ∧ (s.1 6) ≤ 800) ∧ ((∀ (k_56 : Int) (k_57 : Int) (k_58 : Int) (k_59 : Int) (k_60 : Int) (k_61 : Int) (k_62 : Int) (r_63 : Int), (numQ (s.2 4) (s.1 6) (0 : Int) (i32 (((s.2 6) (24 + (0 : Int))) - 1)) (enx (s.2 4) (s.1 6) k7) (knd (s.2 4) (s.1 6) k7) (plc (s.2 4) (s.1 6) k7) (vlu (s.2 4) (s.1 6) k7) (wrd (s.2 4) (s.1 6) k7) (if k12 = 0 then (1 : Int) else k12) (if k12 = 0 then k9 else k13) k_56 k_57 k_58 k_59 k_60 k_61 k_62 r_63) → (0 ≤ (i32 (x2 + 1)) ∧ (i32 (x2 + 1)) < 120) ∧ (Q none (sS (sS (sS (sS (sS (sS (sS (sA s 8 (upI (upI f8 x2 (if k12 = 0 ∧ k8 = 1 then sortOf k11 else -1)) (i32 (x2 + 1)) r_63)) 7 k_56) 8 k_57) 9 k_58) 10 k_59) 11 k_60) 12 k_61) 13 k_62))))))))) ∧ (¬ (if k12 = 0 then (1 : Int) else k12) = 0 → Q none (sS (sS (sS (sS (sS (sS (sS (sA s 8 f8) 7 k7) 8 k8) 9 k9) 10 k10) 11 k11) 12 (if k12 = 0 then (1 : Int) else k12)) 13 (if k12 = 0 then k9 else k13))))) : HX3_wordTo_8_0 Q b s x2 f8 k7 k8 k9 k10 k11 k12 k13 := by
  refine JW.aload_n dX3_wordTo_0 rfl ?_
  refine JW.mcall (As := []) dX3_wordTo_1 vX3_sortHere rfl q1741 (ctX3_sortHere b (sS (sS (sS (sS (sS (sS (sS (sA s 8 f8) 7 k7) 8 k8) 9 k9) 10 k10) 11 k11) 12 k12) 13 k13)) (Nat.le_of_ble_eq_true rfl) rfl (Nat.le_of_ble_eq_true rfl) ?_
  rintro _ _ ⟨rfl, eq_1⟩
  refine JW.steq (s2 := sS (sS (sS (sS (sS (sS (sS (sA s 8 f8) 7 k7) 8 k8) 9 k9) 10 k10) 11 k11) 12 k12) 13 k13) eq_1 ?_
  refine JW.istore_n (ls' := [(0, vR 351), (1, vR 360), (2, vI x2), (3, vI (if k12 = 0 ∧ k8 = 1 then sortOf k11 else -1))]) dX3_wordTo_4 (Nat.le_of_ble_eq_true rfl) rfl ?_
  refine JW.iload_n dX3_wordTo_5 rfl ?_
  refine JW.iconst dX3_wordTo_6 rfl ?_
  refine JW.icmp_ne (tgt := 15) dX3_wordTo_7 rfl (fun c_2 => ?_) (fun c_2 => ?_)
  · have K := K.1 c_2
    refine JW.aload_n dX3_wordTo_15 rfl ?_
    refine JW.mget (v := vI k12) dX3_wordTo_16 fX3_129 rfl ?_
    refine JW.if_eq (tgt := 23) dX3_wordTo_19 rfl (fun c_3 => ?_) (fun c_3 => ?_)
    · have K := K.1 c_3
      refine JW.aload_n dX3_wordTo_23 rfl ?_
      obtain ⟨o_4, K⟩ := K
      refine JW.mcall (As := []) dX3_wordTo_24 vX3_next rfl q1674 (ctX3_next b (sS (sS (sS (sS (sS (sS (sS (sA s 8 f8) 7 k7) 8 k8) 9 k9) 10 k10) 11 k11) 12 k12) 13 k13) o_4) (Nat.le_of_ble_eq_true rfl) rfl (Nat.le_of_ble_eq_true rfl) ?_
      rintro _ _ ⟨rfl, rfl⟩
      refine JW.steq (s2 := sS (sS (sS (sS (sS (sS (sS (sA s 8 f8) 7 (enx (s.2 4) (s.1 6) k7)) 8 (knd (s.2 4) (s.1 6) k7)) 9 (plc (s.2 4) (s.1 6) k7)) 10 (vlu (s.2 4) (s.1 6) k7)) 11 (wrd (s.2 4) (s.1 6) k7)) 12 k12) 13 k13) (by simp only [sA_A, sS_S, sA_S, sA_lt, sS_lt, Nat.reduceLT, id_eq] <;> rfl) ?_
      refine JW.aload_n dX3_wordTo_27 rfl ?_
      refine JW.iload_n dX3_wordTo_28 rfl ?_
      refine JW.iload_n dX3_wordTo_29 rfl ?_
      obtain ⟨o_6, K⟩ := K
      refine JW.mast 8 (f := f8) dX3_wordTo_30 (Nat.le_of_ble_eq_true rfl) rfl o_6.1 o_6.2 rfl ?_
      refine JW.steq (s2 := sS (sS (sS (sS (sS (sS (sS (sA s 8 (upI f8 x2 (if k12 = 0 ∧ k8 = 1 then sortOf k11 else -1))) 7 (enx (s.2 4) (s.1 6) k7)) 8 (knd (s.2 4) (s.1 6) k7)) 9 (plc (s.2 4) (s.1 6) k7)) 10 (vlu (s.2 4) (s.1 6) k7)) 11 (wrd (s.2 4) (s.1 6) k7)) 12 k12) 13 k13) (by simp only [sA_A, sS_S, sA_S, sA_lt, sS_lt, Nat.reduceLT, id_eq] <;> rfl) ?_
      refine JW.aload_n dX3_wordTo_31 rfl ?_
      refine JW.iload_n dX3_wordTo_32 rfl ?_
      refine JW.iconst dX3_wordTo_33 rfl ?_
      refine JW.iadd dX3_wordTo_34 ?_
      refine JW.iload_n dX3_wordTo_35 rfl ?_
      refine JW.bipush dX3_wordTo_36 rfl ?_
      refine JW.icmp_ne (tgt := 56) dX3_wordTo_38 rfl (fun c_7 => ?_) (fun c_7 => ?_)
      · have K := K.1 c_7
        refine JW.iload_n dX3_wordTo_56 rfl ?_
        refine JW.bipush dX3_wordTo_57 rfl ?_
        refine JW.icmp_lt (tgt := 72) dX3_wordTo_59 rfl (fun c_8 => ?_) (fun c_8 => ?_)
        · have K := K.1 c_8
          refine JW.iconst dX3_wordTo_72 rfl ?_
          obtain ⟨o_9, K⟩ := K
          refine JW.mast 8 (f := (upI f8 x2 (if k12 = 0 ∧ k8 = 1 then sortOf k11 else -1))) dX3_wordTo_73 (Nat.le_of_ble_eq_true rfl) rfl o_9.1 o_9.2 rfl ?_
          refine JW.steq (s2 := sS (sS (sS (sS (sS (sS (sS (sA s 8 (upI (upI f8 x2 (if k12 = 0 ∧ k8 = 1 then sortOf k11 else -1)) (i32 (x2 + 1)) (-1))) 7 (enx (s.2 4) (s.1 6) k7)) 8 (knd (s.2 4) (s.1 6) k7)) 9 (plc (s.2 4) (s.1 6) k7)) 10 (vlu (s.2 4) (s.1 6) k7)) 11 (wrd (s.2 4) (s.1 6) k7)) 12 k12) 13 k13) (by simp only [sA_A, sS_S, sA_S, sA_lt, sS_lt, Nat.reduceLT, id_eq] <;> rfl) ?_
          exact JW.vreturn dX3_wordTo_74 rfl ⟨_, rfl, K⟩
        · have K := K.2 c_8
          refine JW.aload_n dX3_wordTo_62 rfl ?_
          refine JW.iconst dX3_wordTo_63 rfl ?_
          refine JW.bipush dX3_wordTo_64 rfl ?_
          obtain ⟨o_10, K⟩ := K
          refine JW.mcall (As := [vI 0, vI 99]) dX3_wordTo_66 vX3_number_2 rfl q1717 (ctX3_number_2 b (sS (sS (sS (sS (sS (sS (sS (sA s 8 (upI f8 x2 (if k12 = 0 ∧ k8 = 1 then sortOf k11 else -1))) 7 (enx (s.2 4) (s.1 6) k7)) 8 (knd (s.2 4) (s.1 6) k7)) 9 (plc (s.2 4) (s.1 6) k7)) 10 (vlu (s.2 4) (s.1 6) k7)) 11 (wrd (s.2 4) (s.1 6) k7)) 12 k12) 13 k13) 0 99 o_10) (Nat.le_of_ble_eq_true rfl) rfl (Nat.le_of_ble_eq_true rfl) ?_
          rintro _ _ ⟨k_11, k_12, k_13, k_14, k_15, k_16, k_17, r_18, rfl, rfl, q_19⟩
          refine JW.steq (s2 := sS (sS (sS (sS (sS (sS (sS (sA s 8 (upI f8 x2 (if k12 = 0 ∧ k8 = 1 then sortOf k11 else -1))) 7 k_11) 8 k_12) 9 k_13) 10 k_14) 11 k_15) 12 k_16) 13 k_17) (by simp only [sA_A, sS_S, sA_S, sA_lt, sS_lt, Nat.reduceLT, id_eq] <;> rfl) ?_
          replace K := K k_11 k_12 k_13 k_14 k_15 k_16 k_17 r_18 q_19
          refine JW.goto (tgt := 73) dX3_wordTo_69 rfl ?_
          obtain ⟨o_20, K⟩ := K
          refine JW.mast 8 (f := (upI f8 x2 (if k12 = 0 ∧ k8 = 1 then sortOf k11 else -1))) dX3_wordTo_73 (Nat.le_of_ble_eq_true rfl) rfl o_20.1 o_20.2 rfl ?_
          refine JW.steq (s2 := sS (sS (sS (sS (sS (sS (sS (sA s 8 (upI (upI f8 x2 (if k12 = 0 ∧ k8 = 1 then sortOf k11 else -1)) (i32 (x2 + 1)) r_18)) 7 k_11) 8 k_12) 9 k_13) 10 k_14) 11 k_15) 12 k_16) 13 k_17) (by simp only [sA_A, sS_S, sA_S, sA_lt, sS_lt, Nat.reduceLT, id_eq] <;> rfl) ?_
          exact JW.vreturn dX3_wordTo_74 rfl ⟨_, rfl, K⟩
      · have K := K.2 c_7
        refine JW.aload_n dX3_wordTo_41 rfl ?_
        refine JW.iconst dX3_wordTo_42 rfl ?_
        refine JW.aload_n dX3_wordTo_43 rfl ?_
        refine JW.iconst dX3_wordTo_44 rfl ?_
        obtain ⟨o_21, K⟩ := K
        refine JW.mcall (As := [vI 0]) dX3_wordTo_45 vX3_many rfl q1723 (ctX3_many b (sS (sS (sS (sS (sS (sS (sS (sA s 8 (upI f8 x2 (if k12 = 0 ∧ k8 = 1 then sortOf k11 else -1))) 7 (enx (s.2 4) (s.1 6) k7)) 8 (knd (s.2 4) (s.1 6) k7)) 9 (plc (s.2 4) (s.1 6) k7)) 10 (vlu (s.2 4) (s.1 6) k7)) 11 (wrd (s.2 4) (s.1 6) k7)) 12 k12) 13 k13) 0 o_21) (Nat.le_of_ble_eq_true rfl) rfl (Nat.le_of_ble_eq_true rfl) ?_
        rintro _ _ ⟨rfl, eq_22⟩
        refine JW.steq (s2 := sS (sS (sS (sS (sS (sS (sS (sA s 8 (upI f8 x2 (if k12 = 0 ∧ k8 = 1 then sortOf k11 else -1))) 7 (enx (s.2 4) (s.1 6) k7)) 8 (knd (s.2 4) (s.1 6) k7)) 9 (plc (s.2 4) (s.1 6) k7)) 10 (vlu (s.2 4) (s.1 6) k7)) 11 (wrd (s.2 4) (s.1 6) k7)) 12 k12) 13 k13) eq_22 ?_
        refine JW.iconst dX3_wordTo_48 rfl ?_
        refine JW.isub dX3_wordTo_49 ?_
        obtain ⟨o_23, K⟩ := K
        refine JW.mcall (As := [vI 0, vI (i32 (((s.2 6) (24 + (0 : Int))) - 1))]) dX3_wordTo_50 vX3_number_2 rfl q1717 (ctX3_number_2 b (sS (sS (sS (sS (sS (sS (sS (sA s 8 (upI f8 x2 (if k12 = 0 ∧ k8 = 1 then sortOf k11 else -1))) 7 (enx (s.2 4) (s.1 6) k7)) 8 (knd (s.2 4) (s.1 6) k7)) 9 (plc (s.2 4) (s.1 6) k7)) 10 (vlu (s.2 4) (s.1 6) k7)) 11 (wrd (s.2 4) (s.1 6) k7)) 12 k12) 13 k13) 0 (i32 (((s.2 6) (24 + (0 : Int))) - 1)) o_23) (Nat.le_of_ble_eq_true rfl) rfl (Nat.le_of_ble_eq_true rfl) ?_
        rintro _ _ ⟨k_24, k_25, k_26, k_27, k_28, k_29, k_30, r_31, rfl, rfl, q_32⟩
        refine JW.steq (s2 := sS (sS (sS (sS (sS (sS (sS (sA s 8 (upI f8 x2 (if k12 = 0 ∧ k8 = 1 then sortOf k11 else -1))) 7 k_24) 8 k_25) 9 k_26) 10 k_27) 11 k_28) 12 k_29) 13 k_30) (by simp only [sA_A, sS_S, sA_S, sA_lt, sS_lt, Nat.reduceLT, id_eq] <;> rfl) ?_
        replace K := K k_24 k_25 k_26 k_27 k_28 k_29 k_30 r_31 q_32
        refine JW.goto (tgt := 73) dX3_wordTo_53 rfl ?_
        obtain ⟨o_33, K⟩ := K
        refine JW.mast 8 (f := (upI f8 x2 (if k12 = 0 ∧ k8 = 1 then sortOf k11 else -1))) dX3_wordTo_73 (Nat.le_of_ble_eq_true rfl) rfl o_33.1 o_33.2 rfl ?_
        refine JW.steq (s2 := sS (sS (sS (sS (sS (sS (sS (sA s 8 (upI (upI f8 x2 (if k12 = 0 ∧ k8 = 1 then sortOf k11 else -1)) (i32 (x2 + 1)) r_31)) 7 k_24) 8 k_25) 9 k_26) 10 k_27) 11 k_28) 12 k_29) 13 k_30) (by simp only [sA_A, sS_S, sA_S, sA_lt, sS_lt, Nat.reduceLT, id_eq] <;> rfl) ?_
        exact JW.vreturn dX3_wordTo_74 rfl ⟨_, rfl, K⟩
    · have K := K.2 c_3
      exact JW.vreturn dX3_wordTo_22 rfl ⟨_, rfl, K⟩
  · have K := K.2 c_2
    refine JW.aload_n dX3_wordTo_10 rfl ?_
    refine JW.iconst dX3_wordTo_11 rfl ?_
    refine JW.mcall (As := [vI 1]) dX3_wordTo_12 vX3_fails rfl q1708 (ctX3_fails b (sS (sS (sS (sS (sS (sS (sS (sA s 8 f8) 7 k7) 8 k8) 9 k9) 10 k10) 11 k11) 12 k12) 13 k13) 1) (Nat.le_of_ble_eq_true rfl) rfl (Nat.le_of_ble_eq_true rfl) ?_
    rintro _ _ ⟨rfl, rfl⟩
    refine JW.steq (s2 := sS (sS (sS (sS (sS (sS (sS (sA s 8 f8) 7 k7) 8 k8) 9 k9) 10 k10) 11 k11) 12 (if k12 = 0 then (1 : Int) else k12)) 13 (if k12 = 0 then k9 else k13)) (by simp only [sA_A, sS_S, sA_S, sA_lt, sS_lt, Nat.reduceLT, id_eq] <;> rfl) ?_
    refine JW.aload_n dX3_wordTo_15 rfl ?_
    refine JW.mget (v := vI (if k12 = 0 then (1 : Int) else k12)) dX3_wordTo_16 fX3_129 rfl ?_
    refine JW.if_eq (tgt := 23) dX3_wordTo_19 rfl (fun c_35 => ?_) (fun c_35 => ?_)
    · have K := K.1 c_35
      refine JW.aload_n dX3_wordTo_23 rfl ?_
      obtain ⟨o_36, K⟩ := K
      refine JW.mcall (As := []) dX3_wordTo_24 vX3_next rfl q1674 (ctX3_next b (sS (sS (sS (sS (sS (sS (sS (sA s 8 f8) 7 k7) 8 k8) 9 k9) 10 k10) 11 k11) 12 (if k12 = 0 then (1 : Int) else k12)) 13 (if k12 = 0 then k9 else k13)) o_36) (Nat.le_of_ble_eq_true rfl) rfl (Nat.le_of_ble_eq_true rfl) ?_
      rintro _ _ ⟨rfl, rfl⟩
      refine JW.steq (s2 := sS (sS (sS (sS (sS (sS (sS (sA s 8 f8) 7 (enx (s.2 4) (s.1 6) k7)) 8 (knd (s.2 4) (s.1 6) k7)) 9 (plc (s.2 4) (s.1 6) k7)) 10 (vlu (s.2 4) (s.1 6) k7)) 11 (wrd (s.2 4) (s.1 6) k7)) 12 (if k12 = 0 then (1 : Int) else k12)) 13 (if k12 = 0 then k9 else k13)) (by simp only [sA_A, sS_S, sA_S, sA_lt, sS_lt, Nat.reduceLT, id_eq] <;> rfl) ?_
      refine JW.aload_n dX3_wordTo_27 rfl ?_
      refine JW.iload_n dX3_wordTo_28 rfl ?_
      refine JW.iload_n dX3_wordTo_29 rfl ?_
      obtain ⟨o_38, K⟩ := K
      refine JW.mast 8 (f := f8) dX3_wordTo_30 (Nat.le_of_ble_eq_true rfl) rfl o_38.1 o_38.2 rfl ?_
      refine JW.steq (s2 := sS (sS (sS (sS (sS (sS (sS (sA s 8 (upI f8 x2 (if k12 = 0 ∧ k8 = 1 then sortOf k11 else -1))) 7 (enx (s.2 4) (s.1 6) k7)) 8 (knd (s.2 4) (s.1 6) k7)) 9 (plc (s.2 4) (s.1 6) k7)) 10 (vlu (s.2 4) (s.1 6) k7)) 11 (wrd (s.2 4) (s.1 6) k7)) 12 (if k12 = 0 then (1 : Int) else k12)) 13 (if k12 = 0 then k9 else k13)) (by simp only [sA_A, sS_S, sA_S, sA_lt, sS_lt, Nat.reduceLT, id_eq] <;> rfl) ?_
      refine JW.aload_n dX3_wordTo_31 rfl ?_
      refine JW.iload_n dX3_wordTo_32 rfl ?_
      refine JW.iconst dX3_wordTo_33 rfl ?_
      refine JW.iadd dX3_wordTo_34 ?_
      refine JW.iload_n dX3_wordTo_35 rfl ?_
      refine JW.bipush dX3_wordTo_36 rfl ?_
      refine JW.icmp_ne (tgt := 56) dX3_wordTo_38 rfl (fun c_39 => ?_) (fun c_39 => ?_)
      · have K := K.1 c_39
        refine JW.iload_n dX3_wordTo_56 rfl ?_
        refine JW.bipush dX3_wordTo_57 rfl ?_
        refine JW.icmp_lt (tgt := 72) dX3_wordTo_59 rfl (fun c_40 => ?_) (fun c_40 => ?_)
        · have K := K.1 c_40
          refine JW.iconst dX3_wordTo_72 rfl ?_
          obtain ⟨o_41, K⟩ := K
          refine JW.mast 8 (f := (upI f8 x2 (if k12 = 0 ∧ k8 = 1 then sortOf k11 else -1))) dX3_wordTo_73 (Nat.le_of_ble_eq_true rfl) rfl o_41.1 o_41.2 rfl ?_
          refine JW.steq (s2 := sS (sS (sS (sS (sS (sS (sS (sA s 8 (upI (upI f8 x2 (if k12 = 0 ∧ k8 = 1 then sortOf k11 else -1)) (i32 (x2 + 1)) (-1))) 7 (enx (s.2 4) (s.1 6) k7)) 8 (knd (s.2 4) (s.1 6) k7)) 9 (plc (s.2 4) (s.1 6) k7)) 10 (vlu (s.2 4) (s.1 6) k7)) 11 (wrd (s.2 4) (s.1 6) k7)) 12 (if k12 = 0 then (1 : Int) else k12)) 13 (if k12 = 0 then k9 else k13)) (by simp only [sA_A, sS_S, sA_S, sA_lt, sS_lt, Nat.reduceLT, id_eq] <;> rfl) ?_
          exact JW.vreturn dX3_wordTo_74 rfl ⟨_, rfl, K⟩
        · have K := K.2 c_40
          refine JW.aload_n dX3_wordTo_62 rfl ?_
          refine JW.iconst dX3_wordTo_63 rfl ?_
          refine JW.bipush dX3_wordTo_64 rfl ?_
          obtain ⟨o_42, K⟩ := K
          refine JW.mcall (As := [vI 0, vI 99]) dX3_wordTo_66 vX3_number_2 rfl q1717 (ctX3_number_2 b (sS (sS (sS (sS (sS (sS (sS (sA s 8 (upI f8 x2 (if k12 = 0 ∧ k8 = 1 then sortOf k11 else -1))) 7 (enx (s.2 4) (s.1 6) k7)) 8 (knd (s.2 4) (s.1 6) k7)) 9 (plc (s.2 4) (s.1 6) k7)) 10 (vlu (s.2 4) (s.1 6) k7)) 11 (wrd (s.2 4) (s.1 6) k7)) 12 (if k12 = 0 then (1 : Int) else k12)) 13 (if k12 = 0 then k9 else k13)) 0 99 o_42) (Nat.le_of_ble_eq_true rfl) rfl (Nat.le_of_ble_eq_true rfl) ?_
          rintro _ _ ⟨k_43, k_44, k_45, k_46, k_47, k_48, k_49, r_50, rfl, rfl, q_51⟩
          refine JW.steq (s2 := sS (sS (sS (sS (sS (sS (sS (sA s 8 (upI f8 x2 (if k12 = 0 ∧ k8 = 1 then sortOf k11 else -1))) 7 k_43) 8 k_44) 9 k_45) 10 k_46) 11 k_47) 12 k_48) 13 k_49) (by simp only [sA_A, sS_S, sA_S, sA_lt, sS_lt, Nat.reduceLT, id_eq] <;> rfl) ?_
          replace K := K k_43 k_44 k_45 k_46 k_47 k_48 k_49 r_50 q_51
          refine JW.goto (tgt := 73) dX3_wordTo_69 rfl ?_
          obtain ⟨o_52, K⟩ := K
          refine JW.mast 8 (f := (upI f8 x2 (if k12 = 0 ∧ k8 = 1 then sortOf k11 else -1))) dX3_wordTo_73 (Nat.le_of_ble_eq_true rfl) rfl o_52.1 o_52.2 rfl ?_
          refine JW.steq (s2 := sS (sS (sS (sS (sS (sS (sS (sA s 8 (upI (upI f8 x2 (if k12 = 0 ∧ k8 = 1 then sortOf k11 else -1)) (i32 (x2 + 1)) r_50)) 7 k_43) 8 k_44) 9 k_45) 10 k_46) 11 k_47) 12 k_48) 13 k_49) (by simp only [sA_A, sS_S, sA_S, sA_lt, sS_lt, Nat.reduceLT, id_eq] <;> rfl) ?_
          exact JW.vreturn dX3_wordTo_74 rfl ⟨_, rfl, K⟩
      · have K := K.2 c_39
        refine JW.aload_n dX3_wordTo_41 rfl ?_
        refine JW.iconst dX3_wordTo_42 rfl ?_
        refine JW.aload_n dX3_wordTo_43 rfl ?_
        refine JW.iconst dX3_wordTo_44 rfl ?_
        obtain ⟨o_53, K⟩ := K
        refine JW.mcall (As := [vI 0]) dX3_wordTo_45 vX3_many rfl q1723 (ctX3_many b (sS (sS (sS (sS (sS (sS (sS (sA s 8 (upI f8 x2 (if k12 = 0 ∧ k8 = 1 then sortOf k11 else -1))) 7 (enx (s.2 4) (s.1 6) k7)) 8 (knd (s.2 4) (s.1 6) k7)) 9 (plc (s.2 4) (s.1 6) k7)) 10 (vlu (s.2 4) (s.1 6) k7)) 11 (wrd (s.2 4) (s.1 6) k7)) 12 (if k12 = 0 then (1 : Int) else k12)) 13 (if k12 = 0 then k9 else k13)) 0 o_53) (Nat.le_of_ble_eq_true rfl) rfl (Nat.le_of_ble_eq_true rfl) ?_
        rintro _ _ ⟨rfl, eq_54⟩
        refine JW.steq (s2 := sS (sS (sS (sS (sS (sS (sS (sA s 8 (upI f8 x2 (if k12 = 0 ∧ k8 = 1 then sortOf k11 else -1))) 7 (enx (s.2 4) (s.1 6) k7)) 8 (knd (s.2 4) (s.1 6) k7)) 9 (plc (s.2 4) (s.1 6) k7)) 10 (vlu (s.2 4) (s.1 6) k7)) 11 (wrd (s.2 4) (s.1 6) k7)) 12 (if k12 = 0 then (1 : Int) else k12)) 13 (if k12 = 0 then k9 else k13)) eq_54 ?_
        refine JW.iconst dX3_wordTo_48 rfl ?_
        refine JW.isub dX3_wordTo_49 ?_
        obtain ⟨o_55, K⟩ := K
        refine JW.mcall (As := [vI 0, vI (i32 (((s.2 6) (24 + (0 : Int))) - 1))]) dX3_wordTo_50 vX3_number_2 rfl q1717 (ctX3_number_2 b (sS (sS (sS (sS (sS (sS (sS (sA s 8 (upI f8 x2 (if k12 = 0 ∧ k8 = 1 then sortOf k11 else -1))) 7 (enx (s.2 4) (s.1 6) k7)) 8 (knd (s.2 4) (s.1 6) k7)) 9 (plc (s.2 4) (s.1 6) k7)) 10 (vlu (s.2 4) (s.1 6) k7)) 11 (wrd (s.2 4) (s.1 6) k7)) 12 (if k12 = 0 then (1 : Int) else k12)) 13 (if k12 = 0 then k9 else k13)) 0 (i32 (((s.2 6) (24 + (0 : Int))) - 1)) o_55) (Nat.le_of_ble_eq_true rfl) rfl (Nat.le_of_ble_eq_true rfl) ?_
        rintro _ _ ⟨k_56, k_57, k_58, k_59, k_60, k_61, k_62, r_63, rfl, rfl, q_64⟩
        refine JW.steq (s2 := sS (sS (sS (sS (sS (sS (sS (sA s 8 (upI f8 x2 (if k12 = 0 ∧ k8 = 1 then sortOf k11 else -1))) 7 k_56) 8 k_57) 9 k_58) 10 k_59) 11 k_60) 12 k_61) 13 k_62) (by simp only [sA_A, sS_S, sA_S, sA_lt, sS_lt, Nat.reduceLT, id_eq] <;> rfl) ?_
        replace K := K k_56 k_57 k_58 k_59 k_60 k_61 k_62 r_63 q_64
        refine JW.goto (tgt := 73) dX3_wordTo_53 rfl ?_
        obtain ⟨o_65, K⟩ := K
        refine JW.mast 8 (f := (upI f8 x2 (if k12 = 0 ∧ k8 = 1 then sortOf k11 else -1))) dX3_wordTo_73 (Nat.le_of_ble_eq_true rfl) rfl o_65.1 o_65.2 rfl ?_
        refine JW.steq (s2 := sS (sS (sS (sS (sS (sS (sS (sA s 8 (upI (upI f8 x2 (if k12 = 0 ∧ k8 = 1 then sortOf k11 else -1)) (i32 (x2 + 1)) r_63)) 7 k_56) 8 k_57) 9 k_58) 10 k_59) 11 k_60) 12 k_61) 13 k_62) (by simp only [sA_A, sS_S, sA_S, sA_lt, sS_lt, Nat.reduceLT, id_eq] <;> rfl) ?_
        exact JW.vreturn dX3_wordTo_74 rfl ⟨_, rfl, K⟩
    · have K := K.2 c_35
      exact JW.vreturn dX3_wordTo_22 rfl ⟨_, rfl, K⟩
def QX3_wordTo_8 (s : MS) (a2 : Int) : Option AV → MS → Prop := fun v s' => ∃ (f8 : Int → Int) (k7 : Int) (k8 : Int) (k9 : Int) (k10 : Int) (k11 : Int) (k12 : Int) (k13 : Int), v = none ∧ s' = sS (sS (sS (sS (sS (sS (sS (sA s 8 f8) 7 k7) 8 k8) 9 k9) 10 k10) 11 k11) 12 k12) 13 k13 ∧ (wordQ (s.2 4) (s.1 6) ((s.2 6) 24) (s.1 7) (s.1 8) (s.1 9) (s.1 10) (s.1 11) (s.1 12) (s.1 13) (s.2 8) k7 k8 k9 k10 k11 k12 k13 f8 a2)
theorem vX3_wordTo_8_1 (s : MS) (a2 : Int) (hp : 0 ≤ (s.1 7) ∧ (s.1 7) ≤ (s.1 6) ∧ (s.1 6) ≤ 800 ∧ ((if (s.1 12) = 0 ∧ (s.1 8) = 1 then sortOf (s.1 11) else -1) = -1 ∨ (0 ≤ a2 ∧ a2 + 1 < 120)) ∧ (0 ≤ (s.2 6) 24 ∧ (s.2 6) 24 ≤ 100)) (c_2 : ¬ (if (s.1 12) = 0 ∧ (s.1 8) = 1 then sortOf (s.1 11) else -1) = (-1)) (c_3 : (s.1 12) = 0) : (0 ≤ (s.1 7) ∧ (s.1 7) ≤ (s.1 6) ∧ (s.1 6) ≤ 800) := by
  obtain ⟨p0, p1, p2, p3, p4⟩ := hp
  (try simp only [bI_0, bI_n, Classical.not_not, Int.add_zero] at *)
  (try have p5 := p3.resolve_left c_2)
  (try simp (disch := omega) only [i32_id] at *)
  (try unfold lex3)
  (try simp only [bI_0, bI_n, Classical.not_not] at *)
  (try simp (disch := omega) only [i32_id] at *)
  first | done | omega | ((repeat' (with_reducible apply And.intro)) <;> first | assumption | rfl | omega | (exact wordQ_n p0 p1 (by assumption) rfl rfl) | (exact wordQ_p p0 p1 rfl (by assumption) (by assumption)) | (exact wordQ_w p0 p1 rfl (by assumption) (by omega) (by rw [if_pos (by assumption)]) (by assumption)) | (exact wordQ_w p0 p1 rfl (by assumption) (by omega) (by rw [if_neg (by assumption)]) (by assumption)) | (exact (enx_b p1).2.1) | (have := (enx_b (t := s.2 4) p1).1; omega) | grind [upI])
theorem vX3_wordTo_8_2 (s : MS) (a2 : Int) (hp : 0 ≤ (s.1 7) ∧ (s.1 7) ≤ (s.1 6) ∧ (s.1 6) ≤ 800 ∧ ((if (s.1 12) = 0 ∧ (s.1 8) = 1 then sortOf (s.1 11) else -1) = -1 ∨ (0 ≤ a2 ∧ a2 + 1 < 120)) ∧ (0 ≤ (s.2 6) 24 ∧ (s.2 6) 24 ≤ 100)) (c_2 : ¬ (if (s.1 12) = 0 ∧ (s.1 8) = 1 then sortOf (s.1 11) else -1) = (-1)) (c_3 : (s.1 12) = 0) (o_4 : (0 ≤ (s.1 7) ∧ (s.1 7) ≤ (s.1 6) ∧ (s.1 6) ≤ 800)) : (0 ≤ a2 ∧ a2 < 120) := by
  obtain ⟨p0, p1, p2, p3, p4⟩ := hp
  (try simp only [bI_0, bI_n, Classical.not_not, Int.add_zero] at *)
  (try have p5 := p3.resolve_left c_2)
  (try simp (disch := omega) only [i32_id] at *)
  (try unfold lex3)
  (try simp only [bI_0, bI_n, Classical.not_not] at *)
  (try simp (disch := omega) only [i32_id] at *)
  first | done | omega | ((repeat' (with_reducible apply And.intro)) <;> first | assumption | rfl | omega | (exact wordQ_n p0 p1 (by assumption) rfl rfl) | (exact wordQ_p p0 p1 rfl (by assumption) (by assumption)) | (exact wordQ_w p0 p1 rfl (by assumption) (by omega) (by rw [if_pos (by assumption)]) (by assumption)) | (exact wordQ_w p0 p1 rfl (by assumption) (by omega) (by rw [if_neg (by assumption)]) (by assumption)) | (exact (enx_b p1).2.1) | (have := (enx_b (t := s.2 4) p1).1; omega) | grind [upI])
theorem vX3_wordTo_8_3 (s : MS) (a2 : Int) (hp : 0 ≤ (s.1 7) ∧ (s.1 7) ≤ (s.1 6) ∧ (s.1 6) ≤ 800 ∧ ((if (s.1 12) = 0 ∧ (s.1 8) = 1 then sortOf (s.1 11) else -1) = -1 ∨ (0 ≤ a2 ∧ a2 + 1 < 120)) ∧ (0 ≤ (s.2 6) 24 ∧ (s.2 6) 24 ≤ 100)) (c_2 : ¬ (if (s.1 12) = 0 ∧ (s.1 8) = 1 then sortOf (s.1 11) else -1) = (-1)) (c_3 : (s.1 12) = 0) (o_4 : (0 ≤ (s.1 7) ∧ (s.1 7) ≤ (s.1 6) ∧ (s.1 6) ≤ 800)) (o_6 : (0 ≤ a2 ∧ a2 < 120)) (c_7 : ¬ (if (s.1 12) = 0 ∧ (s.1 8) = 1 then sortOf (s.1 11) else -1) = 14) (c_8 : (if (s.1 12) = 0 ∧ (s.1 8) = 1 then sortOf (s.1 11) else -1) < 12) : (0 ≤ (i32 (a2 + 1)) ∧ (i32 (a2 + 1)) < 120) := by
  obtain ⟨p0, p1, p2, p3, p4⟩ := hp
  (try simp only [bI_0, bI_n, Classical.not_not, Int.add_zero] at *)
  (try have p5 := p3.resolve_left c_2)
  (try simp (disch := omega) only [i32_id] at *)
  (try unfold lex3)
  (try simp only [bI_0, bI_n, Classical.not_not] at *)
  (try simp (disch := omega) only [i32_id] at *)
  first | done | omega | ((repeat' (with_reducible apply And.intro)) <;> first | assumption | rfl | omega | (exact wordQ_n p0 p1 (by assumption) rfl rfl) | (exact wordQ_p p0 p1 rfl (by assumption) (by assumption)) | (exact wordQ_w p0 p1 rfl (by assumption) (by omega) (by rw [if_pos (by assumption)]) (by assumption)) | (exact wordQ_w p0 p1 rfl (by assumption) (by omega) (by rw [if_neg (by assumption)]) (by assumption)) | (exact (enx_b p1).2.1) | (have := (enx_b (t := s.2 4) p1).1; omega) | grind [upI])
theorem vX3_wordTo_8_4 (s : MS) (a2 : Int) (hp : 0 ≤ (s.1 7) ∧ (s.1 7) ≤ (s.1 6) ∧ (s.1 6) ≤ 800 ∧ ((if (s.1 12) = 0 ∧ (s.1 8) = 1 then sortOf (s.1 11) else -1) = -1 ∨ (0 ≤ a2 ∧ a2 + 1 < 120)) ∧ (0 ≤ (s.2 6) 24 ∧ (s.2 6) 24 ≤ 100)) (c_2 : ¬ (if (s.1 12) = 0 ∧ (s.1 8) = 1 then sortOf (s.1 11) else -1) = (-1)) (c_3 : (s.1 12) = 0) (o_4 : (0 ≤ (s.1 7) ∧ (s.1 7) ≤ (s.1 6) ∧ (s.1 6) ≤ 800)) (o_6 : (0 ≤ a2 ∧ a2 < 120)) (c_7 : ¬ (if (s.1 12) = 0 ∧ (s.1 8) = 1 then sortOf (s.1 11) else -1) = 14) (c_8 : (if (s.1 12) = 0 ∧ (s.1 8) = 1 then sortOf (s.1 11) else -1) < 12) (o_9 : (0 ≤ (i32 (a2 + 1)) ∧ (i32 (a2 + 1)) < 120)) : wordQ (s.2 4) (s.1 6) ((s.2 6) 24) (s.1 7) (s.1 8) (s.1 9) (s.1 10) (s.1 11) (s.1 12) (s.1 13) (s.2 8) (enx (s.2 4) (s.1 6) (s.1 7)) (knd (s.2 4) (s.1 6) (s.1 7)) (plc (s.2 4) (s.1 6) (s.1 7)) (vlu (s.2 4) (s.1 6) (s.1 7)) (wrd (s.2 4) (s.1 6) (s.1 7)) (s.1 12) (s.1 13) (upI (upI (s.2 8) a2 (if (s.1 12) = 0 ∧ (s.1 8) = 1 then sortOf (s.1 11) else -1)) (i32 (a2 + 1)) (-1)) a2 := by
  obtain ⟨p0, p1, p2, p3, p4⟩ := hp
  (try simp only [bI_0, bI_n, Classical.not_not, Int.add_zero] at *)
  (try have p5 := p3.resolve_left c_2)
  (try simp (disch := omega) only [i32_id] at *)
  (try unfold lex3)
  (try simp only [bI_0, bI_n, Classical.not_not] at *)
  (try simp (disch := omega) only [i32_id] at *)
  first | done | omega | ((repeat' (with_reducible apply And.intro)) <;> first | assumption | rfl | omega | (exact wordQ_n p0 p1 (by assumption) rfl rfl) | (exact wordQ_p p0 p1 rfl (by assumption) (by assumption)) | (exact wordQ_w p0 p1 rfl (by assumption) (by omega) (by rw [if_pos (by assumption)]) (by assumption)) | (exact wordQ_w p0 p1 rfl (by assumption) (by omega) (by rw [if_neg (by assumption)]) (by assumption)) | (exact (enx_b p1).2.1) | (have := (enx_b (t := s.2 4) p1).1; omega) | grind [upI])
theorem vX3_wordTo_8_5 (s : MS) (a2 : Int) (hp : 0 ≤ (s.1 7) ∧ (s.1 7) ≤ (s.1 6) ∧ (s.1 6) ≤ 800 ∧ ((if (s.1 12) = 0 ∧ (s.1 8) = 1 then sortOf (s.1 11) else -1) = -1 ∨ (0 ≤ a2 ∧ a2 + 1 < 120)) ∧ (0 ≤ (s.2 6) 24 ∧ (s.2 6) 24 ≤ 100)) (c_2 : ¬ (if (s.1 12) = 0 ∧ (s.1 8) = 1 then sortOf (s.1 11) else -1) = (-1)) (c_3 : (s.1 12) = 0) (o_4 : (0 ≤ (s.1 7) ∧ (s.1 7) ≤ (s.1 6) ∧ (s.1 6) ≤ 800)) (o_6 : (0 ≤ a2 ∧ a2 < 120)) (c_7 : ¬ (if (s.1 12) = 0 ∧ (s.1 8) = 1 then sortOf (s.1 11) else -1) = 14) (c_8 : ¬ (if (s.1 12) = 0 ∧ (s.1 8) = 1 then sortOf (s.1 11) else -1) < 12) : (0 ≤ (enx (s.2 4) (s.1 6) (s.1 7)) ∧ (enx (s.2 4) (s.1 6) (s.1 7)) ≤ (s.1 6) ∧ (s.1 6) ≤ 800) := by
  obtain ⟨p0, p1, p2, p3, p4⟩ := hp
  (try simp only [bI_0, bI_n, Classical.not_not, Int.add_zero] at *)
  (try have p5 := p3.resolve_left c_2)
  (try simp (disch := omega) only [i32_id] at *)
  (try unfold lex3)
  (try simp only [bI_0, bI_n, Classical.not_not] at *)
  (try simp (disch := omega) only [i32_id] at *)
  first | done | omega | ((repeat' (with_reducible apply And.intro)) <;> first | assumption | rfl | omega | (exact wordQ_n p0 p1 (by assumption) rfl rfl) | (exact wordQ_p p0 p1 rfl (by assumption) (by assumption)) | (exact wordQ_w p0 p1 rfl (by assumption) (by omega) (by rw [if_pos (by assumption)]) (by assumption)) | (exact wordQ_w p0 p1 rfl (by assumption) (by omega) (by rw [if_neg (by assumption)]) (by assumption)) | (exact (enx_b p1).2.1) | (have := (enx_b (t := s.2 4) p1).1; omega) | grind [upI])
theorem vX3_wordTo_8_6 (s : MS) (a2 : Int) (hp : 0 ≤ (s.1 7) ∧ (s.1 7) ≤ (s.1 6) ∧ (s.1 6) ≤ 800 ∧ ((if (s.1 12) = 0 ∧ (s.1 8) = 1 then sortOf (s.1 11) else -1) = -1 ∨ (0 ≤ a2 ∧ a2 + 1 < 120)) ∧ (0 ≤ (s.2 6) 24 ∧ (s.2 6) 24 ≤ 100)) (c_2 : ¬ (if (s.1 12) = 0 ∧ (s.1 8) = 1 then sortOf (s.1 11) else -1) = (-1)) (c_3 : (s.1 12) = 0) (o_4 : (0 ≤ (s.1 7) ∧ (s.1 7) ≤ (s.1 6) ∧ (s.1 6) ≤ 800)) (o_6 : (0 ≤ a2 ∧ a2 < 120)) (c_7 : ¬ (if (s.1 12) = 0 ∧ (s.1 8) = 1 then sortOf (s.1 11) else -1) = 14) (c_8 : ¬ (if (s.1 12) = 0 ∧ (s.1 8) = 1 then sortOf (s.1 11) else -1) < 12) (o_10 : (0 ≤ (enx (s.2 4) (s.1 6) (s.1 7)) ∧ (enx (s.2 4) (s.1 6) (s.1 7)) ≤ (s.1 6) ∧ (s.1 6) ≤ 800)) (k_11 : Int) (k_12 : Int) (k_13 : Int) (k_14 : Int) (k_15 : Int) (k_16 : Int) (k_17 : Int) (r_18 : Int) (q_19 : (numQ (s.2 4) (s.1 6) (0 : Int) (99 : Int) (enx (s.2 4) (s.1 6) (s.1 7)) (knd (s.2 4) (s.1 6) (s.1 7)) (plc (s.2 4) (s.1 6) (s.1 7)) (vlu (s.2 4) (s.1 6) (s.1 7)) (wrd (s.2 4) (s.1 6) (s.1 7)) (s.1 12) (s.1 13) k_11 k_12 k_13 k_14 k_15 k_16 k_17 r_18)) : (0 ≤ (i32 (a2 + 1)) ∧ (i32 (a2 + 1)) < 120) := by
  obtain ⟨p0, p1, p2, p3, p4⟩ := hp
  (try simp only [bI_0, bI_n, Classical.not_not, Int.add_zero] at *)
  (try have p5 := p3.resolve_left c_2)
  (try simp (disch := omega) only [i32_id] at *)
  (try unfold lex3)
  (try simp only [bI_0, bI_n, Classical.not_not] at *)
  (try simp (disch := omega) only [i32_id] at *)
  first | done | omega | ((repeat' (with_reducible apply And.intro)) <;> first | assumption | rfl | omega | (exact wordQ_n p0 p1 (by assumption) rfl rfl) | (exact wordQ_p p0 p1 rfl (by assumption) (by assumption)) | (exact wordQ_w p0 p1 rfl (by assumption) (by omega) (by rw [if_pos (by assumption)]) (by assumption)) | (exact wordQ_w p0 p1 rfl (by assumption) (by omega) (by rw [if_neg (by assumption)]) (by assumption)) | (exact (enx_b p1).2.1) | (have := (enx_b (t := s.2 4) p1).1; omega) | grind [upI])
theorem vX3_wordTo_8_7 (s : MS) (a2 : Int) (hp : 0 ≤ (s.1 7) ∧ (s.1 7) ≤ (s.1 6) ∧ (s.1 6) ≤ 800 ∧ ((if (s.1 12) = 0 ∧ (s.1 8) = 1 then sortOf (s.1 11) else -1) = -1 ∨ (0 ≤ a2 ∧ a2 + 1 < 120)) ∧ (0 ≤ (s.2 6) 24 ∧ (s.2 6) 24 ≤ 100)) (c_2 : ¬ (if (s.1 12) = 0 ∧ (s.1 8) = 1 then sortOf (s.1 11) else -1) = (-1)) (c_3 : (s.1 12) = 0) (o_4 : (0 ≤ (s.1 7) ∧ (s.1 7) ≤ (s.1 6) ∧ (s.1 6) ≤ 800)) (o_6 : (0 ≤ a2 ∧ a2 < 120)) (c_7 : ¬ (if (s.1 12) = 0 ∧ (s.1 8) = 1 then sortOf (s.1 11) else -1) = 14) (c_8 : ¬ (if (s.1 12) = 0 ∧ (s.1 8) = 1 then sortOf (s.1 11) else -1) < 12) (o_10 : (0 ≤ (enx (s.2 4) (s.1 6) (s.1 7)) ∧ (enx (s.2 4) (s.1 6) (s.1 7)) ≤ (s.1 6) ∧ (s.1 6) ≤ 800)) (k_11 : Int) (k_12 : Int) (k_13 : Int) (k_14 : Int) (k_15 : Int) (k_16 : Int) (k_17 : Int) (r_18 : Int) (q_19 : (numQ (s.2 4) (s.1 6) (0 : Int) (99 : Int) (enx (s.2 4) (s.1 6) (s.1 7)) (knd (s.2 4) (s.1 6) (s.1 7)) (plc (s.2 4) (s.1 6) (s.1 7)) (vlu (s.2 4) (s.1 6) (s.1 7)) (wrd (s.2 4) (s.1 6) (s.1 7)) (s.1 12) (s.1 13) k_11 k_12 k_13 k_14 k_15 k_16 k_17 r_18)) (o_20 : (0 ≤ (i32 (a2 + 1)) ∧ (i32 (a2 + 1)) < 120)) : wordQ (s.2 4) (s.1 6) ((s.2 6) 24) (s.1 7) (s.1 8) (s.1 9) (s.1 10) (s.1 11) (s.1 12) (s.1 13) (s.2 8) k_11 k_12 k_13 k_14 k_15 k_16 k_17 (upI (upI (s.2 8) a2 (if (s.1 12) = 0 ∧ (s.1 8) = 1 then sortOf (s.1 11) else -1)) (i32 (a2 + 1)) r_18) a2 := by
  obtain ⟨p0, p1, p2, p3, p4⟩ := hp
  (try simp only [bI_0, bI_n, Classical.not_not, Int.add_zero] at *)
  (try have p5 := p3.resolve_left c_2)
  (try simp (disch := omega) only [i32_id] at *)
  (try unfold lex3)
  (try simp only [bI_0, bI_n, Classical.not_not] at *)
  (try simp (disch := omega) only [i32_id] at *)
  first | done | omega | ((repeat' (with_reducible apply And.intro)) <;> first | assumption | rfl | omega | (exact wordQ_n p0 p1 (by assumption) rfl rfl) | (exact wordQ_p p0 p1 rfl (by assumption) (by assumption)) | (exact wordQ_w p0 p1 rfl (by assumption) (by omega) (by rw [if_pos (by assumption)]) (by assumption)) | (exact wordQ_w p0 p1 rfl (by assumption) (by omega) (by rw [if_neg (by assumption)]) (by assumption)) | (exact (enx_b p1).2.1) | (have := (enx_b (t := s.2 4) p1).1; omega) | grind [upI])
theorem vX3_wordTo_8_8 (s : MS) (a2 : Int) (hp : 0 ≤ (s.1 7) ∧ (s.1 7) ≤ (s.1 6) ∧ (s.1 6) ≤ 800 ∧ ((if (s.1 12) = 0 ∧ (s.1 8) = 1 then sortOf (s.1 11) else -1) = -1 ∨ (0 ≤ a2 ∧ a2 + 1 < 120)) ∧ (0 ≤ (s.2 6) 24 ∧ (s.2 6) 24 ≤ 100)) (c_2 : ¬ (if (s.1 12) = 0 ∧ (s.1 8) = 1 then sortOf (s.1 11) else -1) = (-1)) (c_3 : (s.1 12) = 0) (o_4 : (0 ≤ (s.1 7) ∧ (s.1 7) ≤ (s.1 6) ∧ (s.1 6) ≤ 800)) (o_6 : (0 ≤ a2 ∧ a2 < 120)) (c_7 : (if (s.1 12) = 0 ∧ (s.1 8) = 1 then sortOf (s.1 11) else -1) = 14) : (0 ≤ (0 : Int) ∧ (0 : Int) < 6) := by
  obtain ⟨p0, p1, p2, p3, p4⟩ := hp
  (try simp only [bI_0, bI_n, Classical.not_not, Int.add_zero] at *)
  (try have p5 := p3.resolve_left c_2)
  (try simp (disch := omega) only [i32_id] at *)
  (try unfold lex3)
  (try simp only [bI_0, bI_n, Classical.not_not] at *)
  (try simp (disch := omega) only [i32_id] at *)
  first | done | omega | ((repeat' (with_reducible apply And.intro)) <;> first | assumption | rfl | omega | (exact wordQ_n p0 p1 (by assumption) rfl rfl) | (exact wordQ_p p0 p1 rfl (by assumption) (by assumption)) | (exact wordQ_w p0 p1 rfl (by assumption) (by omega) (by rw [if_pos (by assumption)]) (by assumption)) | (exact wordQ_w p0 p1 rfl (by assumption) (by omega) (by rw [if_neg (by assumption)]) (by assumption)) | (exact (enx_b p1).2.1) | (have := (enx_b (t := s.2 4) p1).1; omega) | grind [upI])
theorem vX3_wordTo_8_9 (s : MS) (a2 : Int) (hp : 0 ≤ (s.1 7) ∧ (s.1 7) ≤ (s.1 6) ∧ (s.1 6) ≤ 800 ∧ ((if (s.1 12) = 0 ∧ (s.1 8) = 1 then sortOf (s.1 11) else -1) = -1 ∨ (0 ≤ a2 ∧ a2 + 1 < 120)) ∧ (0 ≤ (s.2 6) 24 ∧ (s.2 6) 24 ≤ 100)) (c_2 : ¬ (if (s.1 12) = 0 ∧ (s.1 8) = 1 then sortOf (s.1 11) else -1) = (-1)) (c_3 : (s.1 12) = 0) (o_4 : (0 ≤ (s.1 7) ∧ (s.1 7) ≤ (s.1 6) ∧ (s.1 6) ≤ 800)) (o_6 : (0 ≤ a2 ∧ a2 < 120)) (c_7 : (if (s.1 12) = 0 ∧ (s.1 8) = 1 then sortOf (s.1 11) else -1) = 14) (o_21 : (0 ≤ (0 : Int) ∧ (0 : Int) < 6)) : (0 ≤ (enx (s.2 4) (s.1 6) (s.1 7)) ∧ (enx (s.2 4) (s.1 6) (s.1 7)) ≤ (s.1 6) ∧ (s.1 6) ≤ 800) := by
  obtain ⟨p0, p1, p2, p3, p4⟩ := hp
  (try simp only [bI_0, bI_n, Classical.not_not, Int.add_zero] at *)
  (try have p5 := p3.resolve_left c_2)
  (try simp (disch := omega) only [i32_id] at *)
  (try unfold lex3)
  (try simp only [bI_0, bI_n, Classical.not_not] at *)
  (try simp (disch := omega) only [i32_id] at *)
  first | done | omega | ((repeat' (with_reducible apply And.intro)) <;> first | assumption | rfl | omega | (exact wordQ_n p0 p1 (by assumption) rfl rfl) | (exact wordQ_p p0 p1 rfl (by assumption) (by assumption)) | (exact wordQ_w p0 p1 rfl (by assumption) (by omega) (by rw [if_pos (by assumption)]) (by assumption)) | (exact wordQ_w p0 p1 rfl (by assumption) (by omega) (by rw [if_neg (by assumption)]) (by assumption)) | (exact (enx_b p1).2.1) | (have := (enx_b (t := s.2 4) p1).1; omega) | grind [upI])
theorem vX3_wordTo_8_10 (s : MS) (a2 : Int) (hp : 0 ≤ (s.1 7) ∧ (s.1 7) ≤ (s.1 6) ∧ (s.1 6) ≤ 800 ∧ ((if (s.1 12) = 0 ∧ (s.1 8) = 1 then sortOf (s.1 11) else -1) = -1 ∨ (0 ≤ a2 ∧ a2 + 1 < 120)) ∧ (0 ≤ (s.2 6) 24 ∧ (s.2 6) 24 ≤ 100)) (c_2 : ¬ (if (s.1 12) = 0 ∧ (s.1 8) = 1 then sortOf (s.1 11) else -1) = (-1)) (c_3 : (s.1 12) = 0) (o_4 : (0 ≤ (s.1 7) ∧ (s.1 7) ≤ (s.1 6) ∧ (s.1 6) ≤ 800)) (o_6 : (0 ≤ a2 ∧ a2 < 120)) (c_7 : (if (s.1 12) = 0 ∧ (s.1 8) = 1 then sortOf (s.1 11) else -1) = 14) (o_21 : (0 ≤ (0 : Int) ∧ (0 : Int) < 6)) (o_23 : (0 ≤ (enx (s.2 4) (s.1 6) (s.1 7)) ∧ (enx (s.2 4) (s.1 6) (s.1 7)) ≤ (s.1 6) ∧ (s.1 6) ≤ 800)) (k_24 : Int) (k_25 : Int) (k_26 : Int) (k_27 : Int) (k_28 : Int) (k_29 : Int) (k_30 : Int) (r_31 : Int) (q_32 : (numQ (s.2 4) (s.1 6) (0 : Int) (i32 (((s.2 6) (24 + (0 : Int))) - 1)) (enx (s.2 4) (s.1 6) (s.1 7)) (knd (s.2 4) (s.1 6) (s.1 7)) (plc (s.2 4) (s.1 6) (s.1 7)) (vlu (s.2 4) (s.1 6) (s.1 7)) (wrd (s.2 4) (s.1 6) (s.1 7)) (s.1 12) (s.1 13) k_24 k_25 k_26 k_27 k_28 k_29 k_30 r_31)) : (0 ≤ (i32 (a2 + 1)) ∧ (i32 (a2 + 1)) < 120) := by
  obtain ⟨p0, p1, p2, p3, p4⟩ := hp
  (try simp only [bI_0, bI_n, Classical.not_not, Int.add_zero] at *)
  (try have p5 := p3.resolve_left c_2)
  (try simp (disch := omega) only [i32_id] at *)
  (try unfold lex3)
  (try simp only [bI_0, bI_n, Classical.not_not] at *)
  (try simp (disch := omega) only [i32_id] at *)
  first | done | omega | ((repeat' (with_reducible apply And.intro)) <;> first | assumption | rfl | omega | (exact wordQ_n p0 p1 (by assumption) rfl rfl) | (exact wordQ_p p0 p1 rfl (by assumption) (by assumption)) | (exact wordQ_w p0 p1 rfl (by assumption) (by omega) (by rw [if_pos (by assumption)]) (by assumption)) | (exact wordQ_w p0 p1 rfl (by assumption) (by omega) (by rw [if_neg (by assumption)]) (by assumption)) | (exact (enx_b p1).2.1) | (have := (enx_b (t := s.2 4) p1).1; omega) | grind [upI])
theorem vX3_wordTo_8_11 (s : MS) (a2 : Int) (hp : 0 ≤ (s.1 7) ∧ (s.1 7) ≤ (s.1 6) ∧ (s.1 6) ≤ 800 ∧ ((if (s.1 12) = 0 ∧ (s.1 8) = 1 then sortOf (s.1 11) else -1) = -1 ∨ (0 ≤ a2 ∧ a2 + 1 < 120)) ∧ (0 ≤ (s.2 6) 24 ∧ (s.2 6) 24 ≤ 100)) (c_2 : ¬ (if (s.1 12) = 0 ∧ (s.1 8) = 1 then sortOf (s.1 11) else -1) = (-1)) (c_3 : (s.1 12) = 0) (o_4 : (0 ≤ (s.1 7) ∧ (s.1 7) ≤ (s.1 6) ∧ (s.1 6) ≤ 800)) (o_6 : (0 ≤ a2 ∧ a2 < 120)) (c_7 : (if (s.1 12) = 0 ∧ (s.1 8) = 1 then sortOf (s.1 11) else -1) = 14) (o_21 : (0 ≤ (0 : Int) ∧ (0 : Int) < 6)) (o_23 : (0 ≤ (enx (s.2 4) (s.1 6) (s.1 7)) ∧ (enx (s.2 4) (s.1 6) (s.1 7)) ≤ (s.1 6) ∧ (s.1 6) ≤ 800)) (k_24 : Int) (k_25 : Int) (k_26 : Int) (k_27 : Int) (k_28 : Int) (k_29 : Int) (k_30 : Int) (r_31 : Int) (q_32 : (numQ (s.2 4) (s.1 6) (0 : Int) (i32 (((s.2 6) (24 + (0 : Int))) - 1)) (enx (s.2 4) (s.1 6) (s.1 7)) (knd (s.2 4) (s.1 6) (s.1 7)) (plc (s.2 4) (s.1 6) (s.1 7)) (vlu (s.2 4) (s.1 6) (s.1 7)) (wrd (s.2 4) (s.1 6) (s.1 7)) (s.1 12) (s.1 13) k_24 k_25 k_26 k_27 k_28 k_29 k_30 r_31)) (o_33 : (0 ≤ (i32 (a2 + 1)) ∧ (i32 (a2 + 1)) < 120)) : wordQ (s.2 4) (s.1 6) ((s.2 6) 24) (s.1 7) (s.1 8) (s.1 9) (s.1 10) (s.1 11) (s.1 12) (s.1 13) (s.2 8) k_24 k_25 k_26 k_27 k_28 k_29 k_30 (upI (upI (s.2 8) a2 (if (s.1 12) = 0 ∧ (s.1 8) = 1 then sortOf (s.1 11) else -1)) (i32 (a2 + 1)) r_31) a2 := by
  obtain ⟨p0, p1, p2, p3, p4⟩ := hp
  (try simp only [bI_0, bI_n, Classical.not_not, Int.add_zero] at *)
  (try have p5 := p3.resolve_left c_2)
  (try simp (disch := omega) only [i32_id] at *)
  (try unfold lex3)
  (try simp only [bI_0, bI_n, Classical.not_not] at *)
  (try simp (disch := omega) only [i32_id] at *)
  first | done | omega | ((repeat' (with_reducible apply And.intro)) <;> first | assumption | rfl | omega | (exact wordQ_n p0 p1 (by assumption) rfl rfl) | (exact wordQ_p p0 p1 rfl (by assumption) (by assumption)) | (exact wordQ_w p0 p1 rfl (by assumption) (by omega) (by rw [if_pos (by assumption)]) (by assumption)) | (exact wordQ_w p0 p1 rfl (by assumption) (by omega) (by rw [if_neg (by assumption)]) (by assumption)) | (exact (enx_b p1).2.1) | (have := (enx_b (t := s.2 4) p1).1; omega) | grind [upI])
theorem vX3_wordTo_8_12 (s : MS) (a2 : Int) (hp : 0 ≤ (s.1 7) ∧ (s.1 7) ≤ (s.1 6) ∧ (s.1 6) ≤ 800 ∧ ((if (s.1 12) = 0 ∧ (s.1 8) = 1 then sortOf (s.1 11) else -1) = -1 ∨ (0 ≤ a2 ∧ a2 + 1 < 120)) ∧ (0 ≤ (s.2 6) 24 ∧ (s.2 6) 24 ≤ 100)) (c_2 : ¬ (if (s.1 12) = 0 ∧ (s.1 8) = 1 then sortOf (s.1 11) else -1) = (-1)) (c_3 : ¬ (s.1 12) = 0) : wordQ (s.2 4) (s.1 6) ((s.2 6) 24) (s.1 7) (s.1 8) (s.1 9) (s.1 10) (s.1 11) (s.1 12) (s.1 13) (s.2 8) (s.1 7) (s.1 8) (s.1 9) (s.1 10) (s.1 11) (s.1 12) (s.1 13) (s.2 8) a2 := by
  obtain ⟨p0, p1, p2, p3, p4⟩ := hp
  (try simp only [bI_0, bI_n, Classical.not_not, Int.add_zero] at *)
  (try have p5 := p3.resolve_left c_2)
  (try simp (disch := omega) only [i32_id] at *)
  (try unfold lex3)
  (try simp only [bI_0, bI_n, Classical.not_not] at *)
  (try simp (disch := omega) only [i32_id] at *)
  first | done | omega | ((repeat' (with_reducible apply And.intro)) <;> first | assumption | rfl | omega | (exact wordQ_n p0 p1 (by assumption) rfl rfl) | (exact wordQ_p p0 p1 rfl (by assumption) (by assumption)) | (exact wordQ_w p0 p1 rfl (by assumption) (by omega) (by rw [if_pos (by assumption)]) (by assumption)) | (exact wordQ_w p0 p1 rfl (by assumption) (by omega) (by rw [if_neg (by assumption)]) (by assumption)) | (exact (enx_b p1).2.1) | (have := (enx_b (t := s.2 4) p1).1; omega) | grind [upI])
theorem vX3_wordTo_8_13 (s : MS) (a2 : Int) (hp : 0 ≤ (s.1 7) ∧ (s.1 7) ≤ (s.1 6) ∧ (s.1 6) ≤ 800 ∧ ((if (s.1 12) = 0 ∧ (s.1 8) = 1 then sortOf (s.1 11) else -1) = -1 ∨ (0 ≤ a2 ∧ a2 + 1 < 120)) ∧ (0 ≤ (s.2 6) 24 ∧ (s.2 6) 24 ≤ 100)) (c_2 : (if (s.1 12) = 0 ∧ (s.1 8) = 1 then sortOf (s.1 11) else -1) = (-1)) (c_35 : (if (s.1 12) = 0 then (1 : Int) else (s.1 12)) = 0) : (0 ≤ (s.1 7) ∧ (s.1 7) ≤ (s.1 6) ∧ (s.1 6) ≤ 800) := by
  obtain ⟨p0, p1, p2, p3, p4⟩ := hp
  (try simp only [bI_0, bI_n, Classical.not_not, Int.add_zero] at *)
  (try have p5 := p3.resolve_left c_2)
  (try simp (disch := omega) only [i32_id] at *)
  (try unfold lex3)
  (try simp only [bI_0, bI_n, Classical.not_not] at *)
  (try simp (disch := omega) only [i32_id] at *)
  first | done | omega | ((repeat' (with_reducible apply And.intro)) <;> first | assumption | rfl | omega | (exact wordQ_n p0 p1 (by assumption) rfl rfl) | (exact wordQ_p p0 p1 rfl (by assumption) (by assumption)) | (exact wordQ_w p0 p1 rfl (by assumption) (by omega) (by rw [if_pos (by assumption)]) (by assumption)) | (exact wordQ_w p0 p1 rfl (by assumption) (by omega) (by rw [if_neg (by assumption)]) (by assumption)) | (exact (enx_b p1).2.1) | (have := (enx_b (t := s.2 4) p1).1; omega) | grind [upI])
theorem vX3_wordTo_8_14 (s : MS) (a2 : Int) (hp : 0 ≤ (s.1 7) ∧ (s.1 7) ≤ (s.1 6) ∧ (s.1 6) ≤ 800 ∧ ((if (s.1 12) = 0 ∧ (s.1 8) = 1 then sortOf (s.1 11) else -1) = -1 ∨ (0 ≤ a2 ∧ a2 + 1 < 120)) ∧ (0 ≤ (s.2 6) 24 ∧ (s.2 6) 24 ≤ 100)) (c_2 : (if (s.1 12) = 0 ∧ (s.1 8) = 1 then sortOf (s.1 11) else -1) = (-1)) (c_35 : (if (s.1 12) = 0 then (1 : Int) else (s.1 12)) = 0) (o_36 : (0 ≤ (s.1 7) ∧ (s.1 7) ≤ (s.1 6) ∧ (s.1 6) ≤ 800)) : (0 ≤ a2 ∧ a2 < 120) := by
  obtain ⟨p0, p1, p2, p3, p4⟩ := hp
  (try simp only [bI_0, bI_n, Classical.not_not, Int.add_zero] at *)
  (try have p5 := p3.resolve_left c_2)
  (try simp (disch := omega) only [i32_id] at *)
  (try unfold lex3)
  (try simp only [bI_0, bI_n, Classical.not_not] at *)
  (try simp (disch := omega) only [i32_id] at *)
  first | done | omega | ((repeat' (with_reducible apply And.intro)) <;> first | assumption | rfl | omega | (exact wordQ_n p0 p1 (by assumption) rfl rfl) | (exact wordQ_p p0 p1 rfl (by assumption) (by assumption)) | (exact wordQ_w p0 p1 rfl (by assumption) (by omega) (by rw [if_pos (by assumption)]) (by assumption)) | (exact wordQ_w p0 p1 rfl (by assumption) (by omega) (by rw [if_neg (by assumption)]) (by assumption)) | (exact (enx_b p1).2.1) | (have := (enx_b (t := s.2 4) p1).1; omega) | grind [upI])
theorem vX3_wordTo_8_15 (s : MS) (a2 : Int) (hp : 0 ≤ (s.1 7) ∧ (s.1 7) ≤ (s.1 6) ∧ (s.1 6) ≤ 800 ∧ ((if (s.1 12) = 0 ∧ (s.1 8) = 1 then sortOf (s.1 11) else -1) = -1 ∨ (0 ≤ a2 ∧ a2 + 1 < 120)) ∧ (0 ≤ (s.2 6) 24 ∧ (s.2 6) 24 ≤ 100)) (c_2 : (if (s.1 12) = 0 ∧ (s.1 8) = 1 then sortOf (s.1 11) else -1) = (-1)) (c_35 : (if (s.1 12) = 0 then (1 : Int) else (s.1 12)) = 0) (o_36 : (0 ≤ (s.1 7) ∧ (s.1 7) ≤ (s.1 6) ∧ (s.1 6) ≤ 800)) (o_38 : (0 ≤ a2 ∧ a2 < 120)) (c_39 : ¬ (if (s.1 12) = 0 ∧ (s.1 8) = 1 then sortOf (s.1 11) else -1) = 14) (c_40 : (if (s.1 12) = 0 ∧ (s.1 8) = 1 then sortOf (s.1 11) else -1) < 12) : (0 ≤ (i32 (a2 + 1)) ∧ (i32 (a2 + 1)) < 120) := by
  obtain ⟨p0, p1, p2, p3, p4⟩ := hp
  (try simp only [bI_0, bI_n, Classical.not_not, Int.add_zero] at *)
  (try have p5 := p3.resolve_left c_2)
  (try simp (disch := omega) only [i32_id] at *)
  (try unfold lex3)
  (try simp only [bI_0, bI_n, Classical.not_not] at *)
  (try simp (disch := omega) only [i32_id] at *)
  first | done | omega | ((repeat' (with_reducible apply And.intro)) <;> first | assumption | rfl | omega | (exact wordQ_n p0 p1 (by assumption) rfl rfl) | (exact wordQ_p p0 p1 rfl (by assumption) (by assumption)) | (exact wordQ_w p0 p1 rfl (by assumption) (by omega) (by rw [if_pos (by assumption)]) (by assumption)) | (exact wordQ_w p0 p1 rfl (by assumption) (by omega) (by rw [if_neg (by assumption)]) (by assumption)) | (exact (enx_b p1).2.1) | (have := (enx_b (t := s.2 4) p1).1; omega) | grind [upI])
theorem vX3_wordTo_8_16 (s : MS) (a2 : Int) (hp : 0 ≤ (s.1 7) ∧ (s.1 7) ≤ (s.1 6) ∧ (s.1 6) ≤ 800 ∧ ((if (s.1 12) = 0 ∧ (s.1 8) = 1 then sortOf (s.1 11) else -1) = -1 ∨ (0 ≤ a2 ∧ a2 + 1 < 120)) ∧ (0 ≤ (s.2 6) 24 ∧ (s.2 6) 24 ≤ 100)) (c_2 : (if (s.1 12) = 0 ∧ (s.1 8) = 1 then sortOf (s.1 11) else -1) = (-1)) (c_35 : (if (s.1 12) = 0 then (1 : Int) else (s.1 12)) = 0) (o_36 : (0 ≤ (s.1 7) ∧ (s.1 7) ≤ (s.1 6) ∧ (s.1 6) ≤ 800)) (o_38 : (0 ≤ a2 ∧ a2 < 120)) (c_39 : ¬ (if (s.1 12) = 0 ∧ (s.1 8) = 1 then sortOf (s.1 11) else -1) = 14) (c_40 : (if (s.1 12) = 0 ∧ (s.1 8) = 1 then sortOf (s.1 11) else -1) < 12) (o_41 : (0 ≤ (i32 (a2 + 1)) ∧ (i32 (a2 + 1)) < 120)) : wordQ (s.2 4) (s.1 6) ((s.2 6) 24) (s.1 7) (s.1 8) (s.1 9) (s.1 10) (s.1 11) (s.1 12) (s.1 13) (s.2 8) (enx (s.2 4) (s.1 6) (s.1 7)) (knd (s.2 4) (s.1 6) (s.1 7)) (plc (s.2 4) (s.1 6) (s.1 7)) (vlu (s.2 4) (s.1 6) (s.1 7)) (wrd (s.2 4) (s.1 6) (s.1 7)) (if (s.1 12) = 0 then (1 : Int) else (s.1 12)) (if (s.1 12) = 0 then (s.1 9) else (s.1 13)) (upI (upI (s.2 8) a2 (if (s.1 12) = 0 ∧ (s.1 8) = 1 then sortOf (s.1 11) else -1)) (i32 (a2 + 1)) (-1)) a2 := by
  obtain ⟨p0, p1, p2, p3, p4⟩ := hp
  (try simp only [bI_0, bI_n, Classical.not_not, Int.add_zero] at *)
  (try have p5 := p3.resolve_left c_2)
  (try simp (disch := omega) only [i32_id] at *)
  (try unfold lex3)
  (try simp only [bI_0, bI_n, Classical.not_not] at *)
  (try simp (disch := omega) only [i32_id] at *)
  first | done | omega | ((repeat' (with_reducible apply And.intro)) <;> first | assumption | rfl | omega | (exact wordQ_n p0 p1 (by assumption) rfl rfl) | (exact wordQ_p p0 p1 rfl (by assumption) (by assumption)) | (exact wordQ_w p0 p1 rfl (by assumption) (by omega) (by rw [if_pos (by assumption)]) (by assumption)) | (exact wordQ_w p0 p1 rfl (by assumption) (by omega) (by rw [if_neg (by assumption)]) (by assumption)) | (exact (enx_b p1).2.1) | (have := (enx_b (t := s.2 4) p1).1; omega) | grind [upI])
theorem vX3_wordTo_8_17 (s : MS) (a2 : Int) (hp : 0 ≤ (s.1 7) ∧ (s.1 7) ≤ (s.1 6) ∧ (s.1 6) ≤ 800 ∧ ((if (s.1 12) = 0 ∧ (s.1 8) = 1 then sortOf (s.1 11) else -1) = -1 ∨ (0 ≤ a2 ∧ a2 + 1 < 120)) ∧ (0 ≤ (s.2 6) 24 ∧ (s.2 6) 24 ≤ 100)) (c_2 : (if (s.1 12) = 0 ∧ (s.1 8) = 1 then sortOf (s.1 11) else -1) = (-1)) (c_35 : (if (s.1 12) = 0 then (1 : Int) else (s.1 12)) = 0) (o_36 : (0 ≤ (s.1 7) ∧ (s.1 7) ≤ (s.1 6) ∧ (s.1 6) ≤ 800)) (o_38 : (0 ≤ a2 ∧ a2 < 120)) (c_39 : ¬ (if (s.1 12) = 0 ∧ (s.1 8) = 1 then sortOf (s.1 11) else -1) = 14) (c_40 : ¬ (if (s.1 12) = 0 ∧ (s.1 8) = 1 then sortOf (s.1 11) else -1) < 12) : (0 ≤ (enx (s.2 4) (s.1 6) (s.1 7)) ∧ (enx (s.2 4) (s.1 6) (s.1 7)) ≤ (s.1 6) ∧ (s.1 6) ≤ 800) := by
  obtain ⟨p0, p1, p2, p3, p4⟩ := hp
  (try simp only [bI_0, bI_n, Classical.not_not, Int.add_zero] at *)
  (try have p5 := p3.resolve_left c_2)
  (try simp (disch := omega) only [i32_id] at *)
  (try unfold lex3)
  (try simp only [bI_0, bI_n, Classical.not_not] at *)
  (try simp (disch := omega) only [i32_id] at *)
  first | done | omega | ((repeat' (with_reducible apply And.intro)) <;> first | assumption | rfl | omega | (exact wordQ_n p0 p1 (by assumption) rfl rfl) | (exact wordQ_p p0 p1 rfl (by assumption) (by assumption)) | (exact wordQ_w p0 p1 rfl (by assumption) (by omega) (by rw [if_pos (by assumption)]) (by assumption)) | (exact wordQ_w p0 p1 rfl (by assumption) (by omega) (by rw [if_neg (by assumption)]) (by assumption)) | (exact (enx_b p1).2.1) | (have := (enx_b (t := s.2 4) p1).1; omega) | grind [upI])
theorem vX3_wordTo_8_18 (s : MS) (a2 : Int) (hp : 0 ≤ (s.1 7) ∧ (s.1 7) ≤ (s.1 6) ∧ (s.1 6) ≤ 800 ∧ ((if (s.1 12) = 0 ∧ (s.1 8) = 1 then sortOf (s.1 11) else -1) = -1 ∨ (0 ≤ a2 ∧ a2 + 1 < 120)) ∧ (0 ≤ (s.2 6) 24 ∧ (s.2 6) 24 ≤ 100)) (c_2 : (if (s.1 12) = 0 ∧ (s.1 8) = 1 then sortOf (s.1 11) else -1) = (-1)) (c_35 : (if (s.1 12) = 0 then (1 : Int) else (s.1 12)) = 0) (o_36 : (0 ≤ (s.1 7) ∧ (s.1 7) ≤ (s.1 6) ∧ (s.1 6) ≤ 800)) (o_38 : (0 ≤ a2 ∧ a2 < 120)) (c_39 : ¬ (if (s.1 12) = 0 ∧ (s.1 8) = 1 then sortOf (s.1 11) else -1) = 14) (c_40 : ¬ (if (s.1 12) = 0 ∧ (s.1 8) = 1 then sortOf (s.1 11) else -1) < 12) (o_42 : (0 ≤ (enx (s.2 4) (s.1 6) (s.1 7)) ∧ (enx (s.2 4) (s.1 6) (s.1 7)) ≤ (s.1 6) ∧ (s.1 6) ≤ 800)) (k_43 : Int) (k_44 : Int) (k_45 : Int) (k_46 : Int) (k_47 : Int) (k_48 : Int) (k_49 : Int) (r_50 : Int) (q_51 : (numQ (s.2 4) (s.1 6) (0 : Int) (99 : Int) (enx (s.2 4) (s.1 6) (s.1 7)) (knd (s.2 4) (s.1 6) (s.1 7)) (plc (s.2 4) (s.1 6) (s.1 7)) (vlu (s.2 4) (s.1 6) (s.1 7)) (wrd (s.2 4) (s.1 6) (s.1 7)) (if (s.1 12) = 0 then (1 : Int) else (s.1 12)) (if (s.1 12) = 0 then (s.1 9) else (s.1 13)) k_43 k_44 k_45 k_46 k_47 k_48 k_49 r_50)) : (0 ≤ (i32 (a2 + 1)) ∧ (i32 (a2 + 1)) < 120) := by
  obtain ⟨p0, p1, p2, p3, p4⟩ := hp
  (try simp only [bI_0, bI_n, Classical.not_not, Int.add_zero] at *)
  (try have p5 := p3.resolve_left c_2)
  (try simp (disch := omega) only [i32_id] at *)
  (try unfold lex3)
  (try simp only [bI_0, bI_n, Classical.not_not] at *)
  (try simp (disch := omega) only [i32_id] at *)
  first | done | omega | ((repeat' (with_reducible apply And.intro)) <;> first | assumption | rfl | omega | (exact wordQ_n p0 p1 (by assumption) rfl rfl) | (exact wordQ_p p0 p1 rfl (by assumption) (by assumption)) | (exact wordQ_w p0 p1 rfl (by assumption) (by omega) (by rw [if_pos (by assumption)]) (by assumption)) | (exact wordQ_w p0 p1 rfl (by assumption) (by omega) (by rw [if_neg (by assumption)]) (by assumption)) | (exact (enx_b p1).2.1) | (have := (enx_b (t := s.2 4) p1).1; omega) | grind [upI])
theorem vX3_wordTo_8_19 (s : MS) (a2 : Int) (hp : 0 ≤ (s.1 7) ∧ (s.1 7) ≤ (s.1 6) ∧ (s.1 6) ≤ 800 ∧ ((if (s.1 12) = 0 ∧ (s.1 8) = 1 then sortOf (s.1 11) else -1) = -1 ∨ (0 ≤ a2 ∧ a2 + 1 < 120)) ∧ (0 ≤ (s.2 6) 24 ∧ (s.2 6) 24 ≤ 100)) (c_2 : (if (s.1 12) = 0 ∧ (s.1 8) = 1 then sortOf (s.1 11) else -1) = (-1)) (c_35 : (if (s.1 12) = 0 then (1 : Int) else (s.1 12)) = 0) (o_36 : (0 ≤ (s.1 7) ∧ (s.1 7) ≤ (s.1 6) ∧ (s.1 6) ≤ 800)) (o_38 : (0 ≤ a2 ∧ a2 < 120)) (c_39 : ¬ (if (s.1 12) = 0 ∧ (s.1 8) = 1 then sortOf (s.1 11) else -1) = 14) (c_40 : ¬ (if (s.1 12) = 0 ∧ (s.1 8) = 1 then sortOf (s.1 11) else -1) < 12) (o_42 : (0 ≤ (enx (s.2 4) (s.1 6) (s.1 7)) ∧ (enx (s.2 4) (s.1 6) (s.1 7)) ≤ (s.1 6) ∧ (s.1 6) ≤ 800)) (k_43 : Int) (k_44 : Int) (k_45 : Int) (k_46 : Int) (k_47 : Int) (k_48 : Int) (k_49 : Int) (r_50 : Int) (q_51 : (numQ (s.2 4) (s.1 6) (0 : Int) (99 : Int) (enx (s.2 4) (s.1 6) (s.1 7)) (knd (s.2 4) (s.1 6) (s.1 7)) (plc (s.2 4) (s.1 6) (s.1 7)) (vlu (s.2 4) (s.1 6) (s.1 7)) (wrd (s.2 4) (s.1 6) (s.1 7)) (if (s.1 12) = 0 then (1 : Int) else (s.1 12)) (if (s.1 12) = 0 then (s.1 9) else (s.1 13)) k_43 k_44 k_45 k_46 k_47 k_48 k_49 r_50)) (o_52 : (0 ≤ (i32 (a2 + 1)) ∧ (i32 (a2 + 1)) < 120)) : wordQ (s.2 4) (s.1 6) ((s.2 6) 24) (s.1 7) (s.1 8) (s.1 9) (s.1 10) (s.1 11) (s.1 12) (s.1 13) (s.2 8) k_43 k_44 k_45 k_46 k_47 k_48 k_49 (upI (upI (s.2 8) a2 (if (s.1 12) = 0 ∧ (s.1 8) = 1 then sortOf (s.1 11) else -1)) (i32 (a2 + 1)) r_50) a2 := by
  obtain ⟨p0, p1, p2, p3, p4⟩ := hp
  (try simp only [bI_0, bI_n, Classical.not_not, Int.add_zero] at *)
  (try have p5 := p3.resolve_left c_2)
  (try simp (disch := omega) only [i32_id] at *)
  (try unfold lex3)
  (try simp only [bI_0, bI_n, Classical.not_not] at *)
  (try simp (disch := omega) only [i32_id] at *)
  first | done | omega | ((repeat' (with_reducible apply And.intro)) <;> first | assumption | rfl | omega | (exact wordQ_n p0 p1 (by assumption) rfl rfl) | (exact wordQ_p p0 p1 rfl (by assumption) (by assumption)) | (exact wordQ_w p0 p1 rfl (by assumption) (by omega) (by rw [if_pos (by assumption)]) (by assumption)) | (exact wordQ_w p0 p1 rfl (by assumption) (by omega) (by rw [if_neg (by assumption)]) (by assumption)) | (exact (enx_b p1).2.1) | (have := (enx_b (t := s.2 4) p1).1; omega) | grind [upI])
theorem vX3_wordTo_8_20 (s : MS) (a2 : Int) (hp : 0 ≤ (s.1 7) ∧ (s.1 7) ≤ (s.1 6) ∧ (s.1 6) ≤ 800 ∧ ((if (s.1 12) = 0 ∧ (s.1 8) = 1 then sortOf (s.1 11) else -1) = -1 ∨ (0 ≤ a2 ∧ a2 + 1 < 120)) ∧ (0 ≤ (s.2 6) 24 ∧ (s.2 6) 24 ≤ 100)) (c_2 : (if (s.1 12) = 0 ∧ (s.1 8) = 1 then sortOf (s.1 11) else -1) = (-1)) (c_35 : (if (s.1 12) = 0 then (1 : Int) else (s.1 12)) = 0) (o_36 : (0 ≤ (s.1 7) ∧ (s.1 7) ≤ (s.1 6) ∧ (s.1 6) ≤ 800)) (o_38 : (0 ≤ a2 ∧ a2 < 120)) (c_39 : (if (s.1 12) = 0 ∧ (s.1 8) = 1 then sortOf (s.1 11) else -1) = 14) : (0 ≤ (0 : Int) ∧ (0 : Int) < 6) := by
  obtain ⟨p0, p1, p2, p3, p4⟩ := hp
  (try simp only [bI_0, bI_n, Classical.not_not, Int.add_zero] at *)
  (try have p5 := p3.resolve_left c_2)
  (try simp (disch := omega) only [i32_id] at *)
  (try unfold lex3)
  (try simp only [bI_0, bI_n, Classical.not_not] at *)
  (try simp (disch := omega) only [i32_id] at *)
  first | done | omega | ((repeat' (with_reducible apply And.intro)) <;> first | assumption | rfl | omega | (exact wordQ_n p0 p1 (by assumption) rfl rfl) | (exact wordQ_p p0 p1 rfl (by assumption) (by assumption)) | (exact wordQ_w p0 p1 rfl (by assumption) (by omega) (by rw [if_pos (by assumption)]) (by assumption)) | (exact wordQ_w p0 p1 rfl (by assumption) (by omega) (by rw [if_neg (by assumption)]) (by assumption)) | (exact (enx_b p1).2.1) | (have := (enx_b (t := s.2 4) p1).1; omega) | grind [upI])
theorem vX3_wordTo_8_21 (s : MS) (a2 : Int) (hp : 0 ≤ (s.1 7) ∧ (s.1 7) ≤ (s.1 6) ∧ (s.1 6) ≤ 800 ∧ ((if (s.1 12) = 0 ∧ (s.1 8) = 1 then sortOf (s.1 11) else -1) = -1 ∨ (0 ≤ a2 ∧ a2 + 1 < 120)) ∧ (0 ≤ (s.2 6) 24 ∧ (s.2 6) 24 ≤ 100)) (c_2 : (if (s.1 12) = 0 ∧ (s.1 8) = 1 then sortOf (s.1 11) else -1) = (-1)) (c_35 : (if (s.1 12) = 0 then (1 : Int) else (s.1 12)) = 0) (o_36 : (0 ≤ (s.1 7) ∧ (s.1 7) ≤ (s.1 6) ∧ (s.1 6) ≤ 800)) (o_38 : (0 ≤ a2 ∧ a2 < 120)) (c_39 : (if (s.1 12) = 0 ∧ (s.1 8) = 1 then sortOf (s.1 11) else -1) = 14) (o_53 : (0 ≤ (0 : Int) ∧ (0 : Int) < 6)) : (0 ≤ (enx (s.2 4) (s.1 6) (s.1 7)) ∧ (enx (s.2 4) (s.1 6) (s.1 7)) ≤ (s.1 6) ∧ (s.1 6) ≤ 800) := by
  obtain ⟨p0, p1, p2, p3, p4⟩ := hp
  (try simp only [bI_0, bI_n, Classical.not_not, Int.add_zero] at *)
  (try have p5 := p3.resolve_left c_2)
  (try simp (disch := omega) only [i32_id] at *)
  (try unfold lex3)
  (try simp only [bI_0, bI_n, Classical.not_not] at *)
  (try simp (disch := omega) only [i32_id] at *)
  first | done | omega | ((repeat' (with_reducible apply And.intro)) <;> first | assumption | rfl | omega | (exact wordQ_n p0 p1 (by assumption) rfl rfl) | (exact wordQ_p p0 p1 rfl (by assumption) (by assumption)) | (exact wordQ_w p0 p1 rfl (by assumption) (by omega) (by rw [if_pos (by assumption)]) (by assumption)) | (exact wordQ_w p0 p1 rfl (by assumption) (by omega) (by rw [if_neg (by assumption)]) (by assumption)) | (exact (enx_b p1).2.1) | (have := (enx_b (t := s.2 4) p1).1; omega) | grind [upI])
theorem vX3_wordTo_8_22 (s : MS) (a2 : Int) (hp : 0 ≤ (s.1 7) ∧ (s.1 7) ≤ (s.1 6) ∧ (s.1 6) ≤ 800 ∧ ((if (s.1 12) = 0 ∧ (s.1 8) = 1 then sortOf (s.1 11) else -1) = -1 ∨ (0 ≤ a2 ∧ a2 + 1 < 120)) ∧ (0 ≤ (s.2 6) 24 ∧ (s.2 6) 24 ≤ 100)) (c_2 : (if (s.1 12) = 0 ∧ (s.1 8) = 1 then sortOf (s.1 11) else -1) = (-1)) (c_35 : (if (s.1 12) = 0 then (1 : Int) else (s.1 12)) = 0) (o_36 : (0 ≤ (s.1 7) ∧ (s.1 7) ≤ (s.1 6) ∧ (s.1 6) ≤ 800)) (o_38 : (0 ≤ a2 ∧ a2 < 120)) (c_39 : (if (s.1 12) = 0 ∧ (s.1 8) = 1 then sortOf (s.1 11) else -1) = 14) (o_53 : (0 ≤ (0 : Int) ∧ (0 : Int) < 6)) (o_55 : (0 ≤ (enx (s.2 4) (s.1 6) (s.1 7)) ∧ (enx (s.2 4) (s.1 6) (s.1 7)) ≤ (s.1 6) ∧ (s.1 6) ≤ 800)) (k_56 : Int) (k_57 : Int) (k_58 : Int) (k_59 : Int) (k_60 : Int) (k_61 : Int) (k_62 : Int) (r_63 : Int) (q_64 : (numQ (s.2 4) (s.1 6) (0 : Int) (i32 (((s.2 6) (24 + (0 : Int))) - 1)) (enx (s.2 4) (s.1 6) (s.1 7)) (knd (s.2 4) (s.1 6) (s.1 7)) (plc (s.2 4) (s.1 6) (s.1 7)) (vlu (s.2 4) (s.1 6) (s.1 7)) (wrd (s.2 4) (s.1 6) (s.1 7)) (if (s.1 12) = 0 then (1 : Int) else (s.1 12)) (if (s.1 12) = 0 then (s.1 9) else (s.1 13)) k_56 k_57 k_58 k_59 k_60 k_61 k_62 r_63)) : (0 ≤ (i32 (a2 + 1)) ∧ (i32 (a2 + 1)) < 120) := by
  obtain ⟨p0, p1, p2, p3, p4⟩ := hp
  (try simp only [bI_0, bI_n, Classical.not_not, Int.add_zero] at *)
  (try have p5 := p3.resolve_left c_2)
  (try simp (disch := omega) only [i32_id] at *)
  (try unfold lex3)
  (try simp only [bI_0, bI_n, Classical.not_not] at *)
  (try simp (disch := omega) only [i32_id] at *)
  first | done | omega | ((repeat' (with_reducible apply And.intro)) <;> first | assumption | rfl | omega | (exact wordQ_n p0 p1 (by assumption) rfl rfl) | (exact wordQ_p p0 p1 rfl (by assumption) (by assumption)) | (exact wordQ_w p0 p1 rfl (by assumption) (by omega) (by rw [if_pos (by assumption)]) (by assumption)) | (exact wordQ_w p0 p1 rfl (by assumption) (by omega) (by rw [if_neg (by assumption)]) (by assumption)) | (exact (enx_b p1).2.1) | (have := (enx_b (t := s.2 4) p1).1; omega) | grind [upI])
theorem vX3_wordTo_8_23 (s : MS) (a2 : Int) (hp : 0 ≤ (s.1 7) ∧ (s.1 7) ≤ (s.1 6) ∧ (s.1 6) ≤ 800 ∧ ((if (s.1 12) = 0 ∧ (s.1 8) = 1 then sortOf (s.1 11) else -1) = -1 ∨ (0 ≤ a2 ∧ a2 + 1 < 120)) ∧ (0 ≤ (s.2 6) 24 ∧ (s.2 6) 24 ≤ 100)) (c_2 : (if (s.1 12) = 0 ∧ (s.1 8) = 1 then sortOf (s.1 11) else -1) = (-1)) (c_35 : (if (s.1 12) = 0 then (1 : Int) else (s.1 12)) = 0) (o_36 : (0 ≤ (s.1 7) ∧ (s.1 7) ≤ (s.1 6) ∧ (s.1 6) ≤ 800)) (o_38 : (0 ≤ a2 ∧ a2 < 120)) (c_39 : (if (s.1 12) = 0 ∧ (s.1 8) = 1 then sortOf (s.1 11) else -1) = 14) (o_53 : (0 ≤ (0 : Int) ∧ (0 : Int) < 6)) (o_55 : (0 ≤ (enx (s.2 4) (s.1 6) (s.1 7)) ∧ (enx (s.2 4) (s.1 6) (s.1 7)) ≤ (s.1 6) ∧ (s.1 6) ≤ 800)) (k_56 : Int) (k_57 : Int) (k_58 : Int) (k_59 : Int) (k_60 : Int) (k_61 : Int) (k_62 : Int) (r_63 : Int) (q_64 : (numQ (s.2 4) (s.1 6) (0 : Int) (i32 (((s.2 6) (24 + (0 : Int))) - 1)) (enx (s.2 4) (s.1 6) (s.1 7)) (knd (s.2 4) (s.1 6) (s.1 7)) (plc (s.2 4) (s.1 6) (s.1 7)) (vlu (s.2 4) (s.1 6) (s.1 7)) (wrd (s.2 4) (s.1 6) (s.1 7)) (if (s.1 12) = 0 then (1 : Int) else (s.1 12)) (if (s.1 12) = 0 then (s.1 9) else (s.1 13)) k_56 k_57 k_58 k_59 k_60 k_61 k_62 r_63)) (o_65 : (0 ≤ (i32 (a2 + 1)) ∧ (i32 (a2 + 1)) < 120)) : wordQ (s.2 4) (s.1 6) ((s.2 6) 24) (s.1 7) (s.1 8) (s.1 9) (s.1 10) (s.1 11) (s.1 12) (s.1 13) (s.2 8) k_56 k_57 k_58 k_59 k_60 k_61 k_62 (upI (upI (s.2 8) a2 (if (s.1 12) = 0 ∧ (s.1 8) = 1 then sortOf (s.1 11) else -1)) (i32 (a2 + 1)) r_63) a2 := by
  obtain ⟨p0, p1, p2, p3, p4⟩ := hp
  (try simp only [bI_0, bI_n, Classical.not_not, Int.add_zero] at *)
  (try have p5 := p3.resolve_left c_2)
  (try simp (disch := omega) only [i32_id] at *)
  (try unfold lex3)
  (try simp only [bI_0, bI_n, Classical.not_not] at *)
  (try simp (disch := omega) only [i32_id] at *)
  first | done | omega | ((repeat' (with_reducible apply And.intro)) <;> first | assumption | rfl | omega | (exact wordQ_n p0 p1 (by assumption) rfl rfl) | (exact wordQ_p p0 p1 rfl (by assumption) (by assumption)) | (exact wordQ_w p0 p1 rfl (by assumption) (by omega) (by rw [if_pos (by assumption)]) (by assumption)) | (exact wordQ_w p0 p1 rfl (by assumption) (by omega) (by rw [if_neg (by assumption)]) (by assumption)) | (exact (enx_b p1).2.1) | (have := (enx_b (t := s.2 4) p1).1; omega) | grind [upI])
theorem vX3_wordTo_8_24 (s : MS) (a2 : Int) (hp : 0 ≤ (s.1 7) ∧ (s.1 7) ≤ (s.1 6) ∧ (s.1 6) ≤ 800 ∧ ((if (s.1 12) = 0 ∧ (s.1 8) = 1 then sortOf (s.1 11) else -1) = -1 ∨ (0 ≤ a2 ∧ a2 + 1 < 120)) ∧ (0 ≤ (s.2 6) 24 ∧ (s.2 6) 24 ≤ 100)) (c_2 : (if (s.1 12) = 0 ∧ (s.1 8) = 1 then sortOf (s.1 11) else -1) = (-1)) (c_35 : ¬ (if (s.1 12) = 0 then (1 : Int) else (s.1 12)) = 0) : wordQ (s.2 4) (s.1 6) ((s.2 6) 24) (s.1 7) (s.1 8) (s.1 9) (s.1 10) (s.1 11) (s.1 12) (s.1 13) (s.2 8) (s.1 7) (s.1 8) (s.1 9) (s.1 10) (s.1 11) (if (s.1 12) = 0 then (1 : Int) else (s.1 12)) (if (s.1 12) = 0 then (s.1 9) else (s.1 13)) (s.2 8) a2 := by
  obtain ⟨p0, p1, p2, p3, p4⟩ := hp
  (try simp only [bI_0, bI_n, Classical.not_not, Int.add_zero] at *)
  (try have p5 := p3.resolve_left c_2)
  (try simp (disch := omega) only [i32_id] at *)
  (try unfold lex3)
  (try simp only [bI_0, bI_n, Classical.not_not] at *)
  (try simp (disch := omega) only [i32_id] at *)
  first | done | omega | ((repeat' (with_reducible apply And.intro)) <;> first | assumption | rfl | omega | (exact wordQ_n p0 p1 (by assumption) rfl rfl) | (exact wordQ_p p0 p1 rfl (by assumption) (by assumption)) | (exact wordQ_w p0 p1 rfl (by assumption) (by omega) (by rw [if_pos (by assumption)]) (by assumption)) | (exact wordQ_w p0 p1 rfl (by assumption) (by omega) (by rw [if_neg (by assumption)]) (by assumption)) | (exact (enx_b p1).2.1) | (have := (enx_b (t := s.2 4) p1).1; omega) | grind [upI])
theorem ctX3_wordTo_8 (b : AH) (s : MS) (a2 : Int) (hp : 0 ≤ (s.1 7) ∧ (s.1 7) ≤ (s.1 6) ∧ (s.1 6) ≤ 800 ∧ ((if (s.1 12) = 0 ∧ (s.1 8) = 1 then sortOf (s.1 11) else -1) = -1 ∨ (0 ≤ a2 ∧ a2 + 1 < 120)) ∧ (0 ≤ (s.2 6) 24 ∧ (s.2 6) 24 ≤ 100)) : MC mX3_wordTo 5 b s [vR 360, vI a2] (QX3_wordTo_8 s a2) := by
  refine MC.of (by decide) rfl (Nat.le_of_ble_eq_true rfl) (JW.steq (s2 := sS (sS (sS (sS (sS (sS (sS (sA s 8 (s.2 8)) 7 (s.1 7)) 8 (s.1 8)) 9 (s.1 9)) 10 (s.1 10)) 11 (s.1 11)) 12 (s.1 12)) 13 (s.1 13)) (by simp only [sA_id, sS_id]) ?_)
  refine bX3_wordTo_8_0 b s a2 (s.2 8) (s.1 7) (s.1 8) (s.1 9) (s.1 10) (s.1 11) (s.1 12) (s.1 13) ?_
  refine ⟨fun c_2 => ?_, fun c_2 => ?_⟩
  · refine ⟨fun c_3 => ?_, fun c_3 => ?_⟩
    · have o_4 : (0 ≤ (s.1 7) ∧ (s.1 7) ≤ (s.1 6) ∧ (s.1 6) ≤ 800) := (vX3_wordTo_8_1 s a2 hp c_2 c_3)
      refine ⟨o_4, ?_⟩
      have o_6 : (0 ≤ a2 ∧ a2 < 120) := (vX3_wordTo_8_2 s a2 hp c_2 c_3 o_4)
      refine ⟨o_6, ?_⟩
      refine ⟨fun c_7 => ?_, fun c_7 => ?_⟩
      · refine ⟨fun c_8 => ?_, fun c_8 => ?_⟩
        · have o_9 : (0 ≤ (i32 (a2 + 1)) ∧ (i32 (a2 + 1)) < 120) := (vX3_wordTo_8_3 s a2 hp c_2 c_3 o_4 o_6 c_7 c_8)
          refine ⟨o_9, ?_⟩
          exact ⟨(upI (upI (s.2 8) a2 (if (s.1 12) = 0 ∧ (s.1 8) = 1 then sortOf (s.1 11) else -1)) (i32 (a2 + 1)) (-1)), (enx (s.2 4) (s.1 6) (s.1 7)), (knd (s.2 4) (s.1 6) (s.1 7)), (plc (s.2 4) (s.1 6) (s.1 7)), (vlu (s.2 4) (s.1 6) (s.1 7)), (wrd (s.2 4) (s.1 6) (s.1 7)), (s.1 12), (s.1 13), rfl, rfl, (vX3_wordTo_8_4 s a2 hp c_2 c_3 o_4 o_6 c_7 c_8 o_9)⟩
        · have o_10 : (0 ≤ (enx (s.2 4) (s.1 6) (s.1 7)) ∧ (enx (s.2 4) (s.1 6) (s.1 7)) ≤ (s.1 6) ∧ (s.1 6) ≤ 800) := (vX3_wordTo_8_5 s a2 hp c_2 c_3 o_4 o_6 c_7 c_8)
          refine ⟨o_10, ?_⟩
          intro k_11 k_12 k_13 k_14 k_15 k_16 k_17 r_18 q_19
          have o_20 : (0 ≤ (i32 (a2 + 1)) ∧ (i32 (a2 + 1)) < 120) := (vX3_wordTo_8_6 s a2 hp c_2 c_3 o_4 o_6 c_7 c_8 o_10 k_11 k_12 k_13 k_14 k_15 k_16 k_17 r_18 q_19)
          refine ⟨o_20, ?_⟩
          exact ⟨(upI (upI (s.2 8) a2 (if (s.1 12) = 0 ∧ (s.1 8) = 1 then sortOf (s.1 11) else -1)) (i32 (a2 + 1)) r_18), k_11, k_12, k_13, k_14, k_15, k_16, k_17, rfl, rfl, (vX3_wordTo_8_7 s a2 hp c_2 c_3 o_4 o_6 c_7 c_8 o_10 k_11 k_12 k_13 k_14 k_15 k_16 k_17 r_18 q_19 o_20)⟩
      · have o_21 : (0 ≤ (0 : Int) ∧ (0 : Int) < 6) := (vX3_wordTo_8_8 s a2 hp c_2 c_3 o_4 o_6 c_7)
        refine ⟨o_21, ?_⟩
        have o_23 : (0 ≤ (enx (s.2 4) (s.1 6) (s.1 7)) ∧ (enx (s.2 4) (s.1 6) (s.1 7)) ≤ (s.1 6) ∧ (s.1 6) ≤ 800) := (vX3_wordTo_8_9 s a2 hp c_2 c_3 o_4 o_6 c_7 o_21)
        refine ⟨o_23, ?_⟩
        intro k_24 k_25 k_26 k_27 k_28 k_29 k_30 r_31 q_32
        have o_33 : (0 ≤ (i32 (a2 + 1)) ∧ (i32 (a2 + 1)) < 120) := (vX3_wordTo_8_10 s a2 hp c_2 c_3 o_4 o_6 c_7 o_21 o_23 k_24 k_25 k_26 k_27 k_28 k_29 k_30 r_31 q_32)
        refine ⟨o_33, ?_⟩
        exact ⟨(upI (upI (s.2 8) a2 (if (s.1 12) = 0 ∧ (s.1 8) = 1 then sortOf (s.1 11) else -1)) (i32 (a2 + 1)) r_31), k_24, k_25, k_26, k_27, k_28, k_29, k_30, rfl, rfl, (vX3_wordTo_8_11 s a2 hp c_2 c_3 o_4 o_6 c_7 o_21 o_23 k_24 k_25 k_26 k_27 k_28 k_29 k_30 r_31 q_32 o_33)⟩
    · exact ⟨(s.2 8), (s.1 7), (s.1 8), (s.1 9), (s.1 10), (s.1 11), (s.1 12), (s.1 13), rfl, rfl, (vX3_wordTo_8_12 s a2 hp c_2 c_3)⟩
  · refine ⟨fun c_35 => ?_, fun c_35 => ?_⟩
    · have o_36 : (0 ≤ (s.1 7) ∧ (s.1 7) ≤ (s.1 6) ∧ (s.1 6) ≤ 800) := (vX3_wordTo_8_13 s a2 hp c_2 c_35)
      refine ⟨o_36, ?_⟩
      have o_38 : (0 ≤ a2 ∧ a2 < 120) := (vX3_wordTo_8_14 s a2 hp c_2 c_35 o_36)
      refine ⟨o_38, ?_⟩
      refine ⟨fun c_39 => ?_, fun c_39 => ?_⟩
      · refine ⟨fun c_40 => ?_, fun c_40 => ?_⟩
        · have o_41 : (0 ≤ (i32 (a2 + 1)) ∧ (i32 (a2 + 1)) < 120) := (vX3_wordTo_8_15 s a2 hp c_2 c_35 o_36 o_38 c_39 c_40)
          refine ⟨o_41, ?_⟩
          exact ⟨(upI (upI (s.2 8) a2 (if (s.1 12) = 0 ∧ (s.1 8) = 1 then sortOf (s.1 11) else -1)) (i32 (a2 + 1)) (-1)), (enx (s.2 4) (s.1 6) (s.1 7)), (knd (s.2 4) (s.1 6) (s.1 7)), (plc (s.2 4) (s.1 6) (s.1 7)), (vlu (s.2 4) (s.1 6) (s.1 7)), (wrd (s.2 4) (s.1 6) (s.1 7)), (if (s.1 12) = 0 then (1 : Int) else (s.1 12)), (if (s.1 12) = 0 then (s.1 9) else (s.1 13)), rfl, rfl, (vX3_wordTo_8_16 s a2 hp c_2 c_35 o_36 o_38 c_39 c_40 o_41)⟩
        · have o_42 : (0 ≤ (enx (s.2 4) (s.1 6) (s.1 7)) ∧ (enx (s.2 4) (s.1 6) (s.1 7)) ≤ (s.1 6) ∧ (s.1 6) ≤ 800) := (vX3_wordTo_8_17 s a2 hp c_2 c_35 o_36 o_38 c_39 c_40)
          refine ⟨o_42, ?_⟩
          intro k_43 k_44 k_45 k_46 k_47 k_48 k_49 r_50 q_51
          have o_52 : (0 ≤ (i32 (a2 + 1)) ∧ (i32 (a2 + 1)) < 120) := (vX3_wordTo_8_18 s a2 hp c_2 c_35 o_36 o_38 c_39 c_40 o_42 k_43 k_44 k_45 k_46 k_47 k_48 k_49 r_50 q_51)
          refine ⟨o_52, ?_⟩
          exact ⟨(upI (upI (s.2 8) a2 (if (s.1 12) = 0 ∧ (s.1 8) = 1 then sortOf (s.1 11) else -1)) (i32 (a2 + 1)) r_50), k_43, k_44, k_45, k_46, k_47, k_48, k_49, rfl, rfl, (vX3_wordTo_8_19 s a2 hp c_2 c_35 o_36 o_38 c_39 c_40 o_42 k_43 k_44 k_45 k_46 k_47 k_48 k_49 r_50 q_51 o_52)⟩
      · have o_53 : (0 ≤ (0 : Int) ∧ (0 : Int) < 6) := (vX3_wordTo_8_20 s a2 hp c_2 c_35 o_36 o_38 c_39)
        refine ⟨o_53, ?_⟩
        have o_55 : (0 ≤ (enx (s.2 4) (s.1 6) (s.1 7)) ∧ (enx (s.2 4) (s.1 6) (s.1 7)) ≤ (s.1 6) ∧ (s.1 6) ≤ 800) := (vX3_wordTo_8_21 s a2 hp c_2 c_35 o_36 o_38 c_39 o_53)
        refine ⟨o_55, ?_⟩
        intro k_56 k_57 k_58 k_59 k_60 k_61 k_62 r_63 q_64
        have o_65 : (0 ≤ (i32 (a2 + 1)) ∧ (i32 (a2 + 1)) < 120) := (vX3_wordTo_8_22 s a2 hp c_2 c_35 o_36 o_38 c_39 o_53 o_55 k_56 k_57 k_58 k_59 k_60 k_61 k_62 r_63 q_64)
        refine ⟨o_65, ?_⟩
        exact ⟨(upI (upI (s.2 8) a2 (if (s.1 12) = 0 ∧ (s.1 8) = 1 then sortOf (s.1 11) else -1)) (i32 (a2 + 1)) r_63), k_56, k_57, k_58, k_59, k_60, k_61, k_62, rfl, rfl, (vX3_wordTo_8_23 s a2 hp c_2 c_35 o_36 o_38 c_39 o_53 o_55 k_56 k_57 k_58 k_59 k_60 k_61 k_62 r_63 q_64 o_65)⟩
    · exact ⟨(s.2 8), (s.1 7), (s.1 8), (s.1 9), (s.1 10), (s.1 11), (if (s.1 12) = 0 then (1 : Int) else (s.1 12)), (if (s.1 12) = 0 then (s.1 9) else (s.1 13)), rfl, rfl, (vX3_wordTo_8_24 s a2 hp c_2 c_35)⟩
