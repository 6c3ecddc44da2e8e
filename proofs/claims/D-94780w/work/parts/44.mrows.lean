/-! contracts of the reference: row cut write paste copyRow@5 copyRow@6 copyRow@7 copyRow@8 copyRow@9 copyTable -/
set_option maxRecDepth 100000
def HX3_row_0 (Q : Option AV → MS → Prop) (b : AH) (s : MS) (x1 : Int) (x2 : Int) (x3 : Int) (f0 : Int → Int) (f1 : Int → Int) (f2 : Int → Int) (k0 : Int) : Prop := MW mX3_row 3 Q b 0 [(0, vR 351), (1, vI x1), (2, vI x2), (3, vI x3)] [] (sS (sA (sA (sA s 0 f0) 1 f1) 2 f2) 0 k0)
def HX3_row_57 (Q : Option AV → MS → Prop) (b : AH) (s : MS) (x1 : Int) (x3 : Int) (x4 : Int) (f0 : Int → Int) (f1 : Int → Int) (f2 : Int → Int) (k0 : Int) : Prop := MW mX3_row 3 Q b 57 [(0, vR 351), (1, vI x1), (3, vI x3), (4, vI x4)] [] (sS (sA (sA (sA s 0 f0) 1 f1) 2 f2) 0 k0)
theorem bX3_row_0 {Q : Option AV → MS → Prop} (b : AH) (s : MS) (x1 : Int) (x2 : Int) (x3 : Int) (f0 : Int → Int) (f1 : Int → Int) (f2 : Int → Int) (k0 : Int) (K : ((bI (0 ≤ x1 ∧ x1 ≤ 3)) = 0 → Q (some (vI (-2))) (sS (sA (sA (sA s 0 f0) 1 f1) 2 f2) 0 0)) ∧ (¬ (bI (0 ≤ x1 ∧ x1 ≤ 3)) = 0 → ((bI ((0 : Int) ≤ x2 ∧ x2 ≤ (3 : Int))) = 0 → Q (some (vI (-2))) (sS (sA (sA (sA s 0 f0) 1 f1) 2 f2) 0 0)) ∧ (¬ (bI ((0 : Int) ≤ x2 ∧ x2 ≤ (3 : Int))) = 0 → (x3 ≤ 60 → (0 ≤ x3 → (0 ≤ x1 ∧ x1 < 4) ∧ (HX3_row_57 Q b s x1 x3 0 (upI f0 x1 x2) (upI f1 x1 x3) f2 0)) ∧ (¬ 0 ≤ x3 → Q (some (vI (-3))) (sS (sA (sA (sA s 0 f0) 1 f1) 2 f2) 0 0))) ∧ (¬ x3 ≤ 60 → Q (some (vI (-2))) (sS (sA (sA (sA s 0 f0) 1 f1) 2 f2) 0 0))))) : HX3_row_0 Q b s x1 x2 x3 f0 f1 f2 k0 := by
  refine JW.aload_n dX3_row_0 rfl ?_
  refine JW.iconst dX3_row_1 rfl ?_
  refine JW.mputI dX3_row_2 (pX3_77 _) rfl ?_
  refine JW.steq (s2 := sS (sA (sA (sA s 0 f0) 1 f1) 2 f2) 0 0) (by simp only [sA_A, sS_S, sA_S, sA_lt, sS_lt, Nat.reduceLT, id_eq] <;> rfl) ?_
  refine JW.iload_n dX3_row_5 rfl ?_
  refine JW.mcallS (As := [vI x1]) dX3_row_6 vX3_isSlot q1628 (ctX3_isSlot b (sS (sA (sA (sA s 0 f0) 1 f1) 2 f2) 0 0) x1) (Nat.le_of_ble_eq_true rfl) rfl (Nat.le_of_ble_eq_true rfl) ?_
  rintro _ _ ⟨rfl, eq_1⟩
  refine JW.steq (s2 := sS (sA (sA (sA s 0 f0) 1 f1) 2 f2) 0 0) eq_1 ?_
  refine JW.if_eq (tgt := 30) dX3_row_9 rfl (fun c_2 => ?_) (fun c_2 => ?_)
  · have K := K.1 c_2
    refine JW.bipush dX3_row_30 rfl ?_
    exact JW.ireturn dX3_row_32 rfl rfl ⟨_, rfl, K⟩
  · have K := K.2 c_2
    refine JW.iload_n dX3_row_12 rfl ?_
    refine JW.i2l dX3_row_13 ?_
    refine JW.lconst (x := 0) dX3_row_14 rfl ?_
    refine JW.ldc2 (x := 3) dX3_row_15 q1631 rfl ?_
    refine JW.mcallS (As := [vL x2, vL 0, vL 3]) dX3_row_18 vX3_in q1632 (ctX3_in b (sS (sA (sA (sA s 0 f0) 1 f1) 2 f2) 0 0) x2 0 3) (Nat.le_of_ble_eq_true rfl) rfl (Nat.le_of_ble_eq_true rfl) ?_
    rintro _ _ ⟨rfl, eq_3⟩
    refine JW.steq (s2 := sS (sA (sA (sA s 0 f0) 1 f1) 2 f2) 0 0) eq_3 ?_
    refine JW.if_eq (tgt := 30) dX3_row_21 rfl (fun c_4 => ?_) (fun c_4 => ?_)
    · have K := K.1 c_4
      refine JW.bipush dX3_row_30 rfl ?_
      exact JW.ireturn dX3_row_32 rfl rfl ⟨_, rfl, K⟩
    · have K := K.2 c_4
      refine JW.iload_n dX3_row_24 rfl ?_
      refine JW.bipush dX3_row_25 rfl ?_
      refine JW.icmp_le (tgt := 33) dX3_row_27 rfl (fun c_5 => ?_) (fun c_5 => ?_)
      · have K := K.1 c_5
        refine JW.iload_n dX3_row_33 rfl ?_
        refine JW.if_ge (tgt := 40) dX3_row_34 rfl (fun c_6 => ?_) (fun c_6 => ?_)
        · have K := K.1 c_6
          refine JW.aload_n dX3_row_40 rfl ?_
          refine JW.mget (v := vR 352) dX3_row_41 fX3_7 rfl ?_
          refine JW.iload_n dX3_row_44 rfl ?_
          refine JW.iload_n dX3_row_45 rfl ?_
          obtain ⟨o_7, K⟩ := K
          refine JW.mast 0 (f := f0) dX3_row_46 (Nat.le_of_ble_eq_true rfl) rfl o_7.1 o_7.2 rfl ?_
          refine JW.steq (s2 := sS (sA (sA (sA s 0 (upI f0 x1 x2)) 1 f1) 2 f2) 0 0) (by simp only [sA_A, sS_S, sA_S, sA_lt, sS_lt, Nat.reduceLT, id_eq] <;> rfl) ?_
          refine JW.aload_n dX3_row_47 rfl ?_
          refine JW.mget (v := vR 353) dX3_row_48 fX3_13 rfl ?_
          refine JW.iload_n dX3_row_51 rfl ?_
          refine JW.iload_n dX3_row_52 rfl ?_
          refine JW.mast 1 (f := f1) dX3_row_53 (Nat.le_of_ble_eq_true rfl) rfl o_7.1 o_7.2 rfl ?_
          refine JW.steq (s2 := sS (sA (sA (sA s 0 (upI f0 x1 x2)) 1 (upI f1 x1 x3)) 2 f2) 0 0) (by simp only [sA_A, sS_S, sA_S, sA_lt, sS_lt, Nat.reduceLT, id_eq] <;> rfl) ?_
          refine JW.iconst dX3_row_54 rfl ?_
          refine JW.istore (ls' := [(0, vR 351), (1, vI x1), (2, vI x2), (3, vI x3), (4, vI 0)]) dX3_row_55 (Nat.le_of_ble_eq_true rfl) rfl ?_
          exact JW.pick [0, 1, 3, 4] rfl K
        · have K := K.2 c_6
          refine JW.bipush dX3_row_37 rfl ?_
          exact JW.ireturn dX3_row_39 rfl rfl ⟨_, rfl, K⟩
      · have K := K.2 c_5
        refine JW.bipush dX3_row_30 rfl ?_
        exact JW.ireturn dX3_row_32 rfl rfl ⟨_, rfl, K⟩
theorem bX3_row_57 {Q : Option AV → MS → Prop} (b : AH) (s : MS) (x1 : Int) (x3 : Int) (x4 : Int) (f0 : Int → Int) (f1 : Int → Int) (f2 : Int → Int) (k0 : Int) (K : (x3 ≤ x4 → Q (some (vI 0)) (sS (sA (sA (sA s 0 f0) 1 f1) 2 f2) 0 k0)) ∧ (¬ x3 ≤ x4 → (0 ≤ (i32 ((i32 (60 * x1)) + x4)) ∧ (i32 ((i32 (60 * x1)) + x4)) < 240) ∧ (HX3_row_57 Q b s x1 x3 (i32 (x4 + 1)) f0 f1 (upI f2 (i32 ((i32 (60 * x1)) + x4)) 0) k0))) : HX3_row_57 Q b s x1 x3 x4 f0 f1 f2 k0 := by
  refine JW.iload dX3_row_57 rfl ?_
  refine JW.iload_n dX3_row_59 rfl ?_
  refine JW.icmp_ge (tgt := 82) dX3_row_60 rfl (fun c_1 => ?_) (fun c_1 => ?_)
  · have K := K.1 c_1
    refine JW.iconst dX3_row_82 rfl ?_
    exact JW.ireturn dX3_row_83 rfl rfl ⟨_, rfl, K⟩
  · have K := K.2 c_1
    refine JW.aload_n dX3_row_63 rfl ?_
    refine JW.mget (v := vR 354) dX3_row_64 fX3_16 rfl ?_
    refine JW.bipush dX3_row_67 rfl ?_
    refine JW.iload_n dX3_row_69 rfl ?_
    refine JW.imul dX3_row_70 ?_
    refine JW.iload dX3_row_71 rfl ?_
    refine JW.iadd dX3_row_73 ?_
    refine JW.lconst (x := 0) dX3_row_74 rfl ?_
    obtain ⟨o_2, K⟩ := K
    refine JW.mlst 2 (f := f2) dX3_row_75 (Nat.le_of_ble_eq_true rfl) rfl o_2.1 o_2.2 rfl ?_
    refine JW.steq (s2 := sS (sA (sA (sA s 0 f0) 1 f1) 2 (upI f2 (i32 ((i32 (60 * x1)) + x4)) 0)) 0 k0) (by simp only [sA_A, sS_S, sA_S, sA_lt, sS_lt, Nat.reduceLT, id_eq] <;> rfl) ?_
    refine JW.iinc (ls' := [(0, vR 351), (1, vI x1), (3, vI x3), (4, vI (i32 (x4 + 1)))]) dX3_row_76 (Nat.le_of_ble_eq_true rfl) rfl rfl ?_
    refine JW.goto (tgt := 57) dX3_row_79 rfl ?_
    exact JW.pick [0, 1, 3, 4] rfl K
def QX3_row (s : MS) (a1 : Int) (a2 : Int) (a3 : Int) : Option AV → MS → Prop := fun v s' => v = some (vI (rRow a1 a2 a3)) ∧ s' = sS (sA (sA (sA s 0 (rowD a1 a2 a3 (upI (s.2 0) a1 a2) (s.2 0))) 1 (rowD a1 a2 a3 (upI (s.2 1) a1 a3) (s.2 1))) 2 (rowD a1 a2 a3 (fillC (s.2 2) (60 * a1) a3 0) (s.2 2))) 0 (0)
theorem vX3_row_1 (s : MS) (a1 : Int) (a2 : Int) (a3 : Int) (x1 : Int) (x3 : Int) (x4 : Int) (f0 : Int → Int) (f1 : Int → Int) (f2 : Int → Int) (k0 : Int) (hI : k0 = 0 ∧ (x1 = a1 ∧ x3 = a3 ∧ rowOK' a1 a2 a3) ∧ (0 ≤ x4 ∧ x4 ≤ a3) ∧ f0 = upI (s.2 0) a1 a2 ∧ f1 = upI (s.2 1) a1 a3 ∧ f2 = fillC (s.2 2) (60 * a1) x4 0) (c_1 : x3 ≤ x4) : f0 = (rowD a1 a2 a3 (upI (s.2 0) a1 a2) (s.2 0)) := by
  (try simp only [bI_0, bI_n, Classical.not_not] at *)
  (try (have hq := hI.2.1.2.2; unfold rowOK' at hq))
  (try unfold lex3)
  (try simp only [bI_0, bI_n, Classical.not_not] at *)
  (try simp (disch := omega) only [i32_id] at *)
  first | done | omega | ((repeat' (with_reducible apply And.intro)) <;> first | assumption | rfl | omega | (exact hI.1) | (exact (rowD_n (fun q => absurd q.1 (by assumption))).symm) | (exact (rowD_n (fun q => absurd q.2.1 (by assumption))).symm) | (exact (rowD_n (fun q => absurd q.2.2.1 (by omega))).symm) | (exact (rowD_n (fun q => absurd q.2.2.2 (by omega))).symm) | (unfold rRow; rw [if_neg (by omega)]) | (unfold rRow; rw [if_pos (by omega), if_pos (by omega)]) | (have hq := hI.2.1.2.2; unfold rowOK' at hq; unfold rRow; rw [if_pos (by omega), if_neg (by omega)]) | (rw [rowD_y hI.2.1.2.2]; exact hI.2.2.2.1) | (rw [rowD_y hI.2.1.2.2]; exact hI.2.2.2.2.1) | (rw [rowD_y hI.2.1.2.2, hI.2.2.2.2.2, show a3 = x4 by omega]) | (unfold rowOK'; omega) | (exact fillC_0 _ _ _) | (have hq := hI.2.1.2.2; unfold rowOK' at hq; omega) | (exact hI.2.1.2.2) | (exact hI.2.2.2.1) | (exact hI.2.2.2.2.1) | (rw [hI.2.2.2.2.2, hI.2.1.1]; exact fillC_s (by omega) rfl) | grind [upI])
theorem vX3_row_2 (s : MS) (a1 : Int) (a2 : Int) (a3 : Int) (x1 : Int) (x3 : Int) (x4 : Int) (f0 : Int → Int) (f1 : Int → Int) (f2 : Int → Int) (k0 : Int) (hI : k0 = 0 ∧ (x1 = a1 ∧ x3 = a3 ∧ rowOK' a1 a2 a3) ∧ (0 ≤ x4 ∧ x4 ≤ a3) ∧ f0 = upI (s.2 0) a1 a2 ∧ f1 = upI (s.2 1) a1 a3 ∧ f2 = fillC (s.2 2) (60 * a1) x4 0) (c_1 : x3 ≤ x4) : f1 = (rowD a1 a2 a3 (upI (s.2 1) a1 a3) (s.2 1)) := by
  (try simp only [bI_0, bI_n, Classical.not_not] at *)
  (try (have hq := hI.2.1.2.2; unfold rowOK' at hq))
  (try unfold lex3)
  (try simp only [bI_0, bI_n, Classical.not_not] at *)
  (try simp (disch := omega) only [i32_id] at *)
  first | done | omega | ((repeat' (with_reducible apply And.intro)) <;> first | assumption | rfl | omega | (exact hI.1) | (exact (rowD_n (fun q => absurd q.1 (by assumption))).symm) | (exact (rowD_n (fun q => absurd q.2.1 (by assumption))).symm) | (exact (rowD_n (fun q => absurd q.2.2.1 (by omega))).symm) | (exact (rowD_n (fun q => absurd q.2.2.2 (by omega))).symm) | (unfold rRow; rw [if_neg (by omega)]) | (unfold rRow; rw [if_pos (by omega), if_pos (by omega)]) | (have hq := hI.2.1.2.2; unfold rowOK' at hq; unfold rRow; rw [if_pos (by omega), if_neg (by omega)]) | (rw [rowD_y hI.2.1.2.2]; exact hI.2.2.2.1) | (rw [rowD_y hI.2.1.2.2]; exact hI.2.2.2.2.1) | (rw [rowD_y hI.2.1.2.2, hI.2.2.2.2.2, show a3 = x4 by omega]) | (unfold rowOK'; omega) | (exact fillC_0 _ _ _) | (have hq := hI.2.1.2.2; unfold rowOK' at hq; omega) | (exact hI.2.1.2.2) | (exact hI.2.2.2.1) | (exact hI.2.2.2.2.1) | (rw [hI.2.2.2.2.2, hI.2.1.1]; exact fillC_s (by omega) rfl) | grind [upI])
theorem vX3_row_3 (s : MS) (a1 : Int) (a2 : Int) (a3 : Int) (x1 : Int) (x3 : Int) (x4 : Int) (f0 : Int → Int) (f1 : Int → Int) (f2 : Int → Int) (k0 : Int) (hI : k0 = 0 ∧ (x1 = a1 ∧ x3 = a3 ∧ rowOK' a1 a2 a3) ∧ (0 ≤ x4 ∧ x4 ≤ a3) ∧ f0 = upI (s.2 0) a1 a2 ∧ f1 = upI (s.2 1) a1 a3 ∧ f2 = fillC (s.2 2) (60 * a1) x4 0) (c_1 : x3 ≤ x4) : f2 = (rowD a1 a2 a3 (fillC (s.2 2) (60 * a1) a3 0) (s.2 2)) := by
  (try simp only [bI_0, bI_n, Classical.not_not] at *)
  (try (have hq := hI.2.1.2.2; unfold rowOK' at hq))
  (try unfold lex3)
  (try simp only [bI_0, bI_n, Classical.not_not] at *)
  (try simp (disch := omega) only [i32_id] at *)
  first | done | omega | ((repeat' (with_reducible apply And.intro)) <;> first | assumption | rfl | omega | (exact hI.1) | (exact (rowD_n (fun q => absurd q.1 (by assumption))).symm) | (exact (rowD_n (fun q => absurd q.2.1 (by assumption))).symm) | (exact (rowD_n (fun q => absurd q.2.2.1 (by omega))).symm) | (exact (rowD_n (fun q => absurd q.2.2.2 (by omega))).symm) | (unfold rRow; rw [if_neg (by omega)]) | (unfold rRow; rw [if_pos (by omega), if_pos (by omega)]) | (have hq := hI.2.1.2.2; unfold rowOK' at hq; unfold rRow; rw [if_pos (by omega), if_neg (by omega)]) | (rw [rowD_y hI.2.1.2.2]; exact hI.2.2.2.1) | (rw [rowD_y hI.2.1.2.2]; exact hI.2.2.2.2.1) | (rw [rowD_y hI.2.1.2.2, hI.2.2.2.2.2, show a3 = x4 by omega]) | (unfold rowOK'; omega) | (exact fillC_0 _ _ _) | (have hq := hI.2.1.2.2; unfold rowOK' at hq; omega) | (exact hI.2.1.2.2) | (exact hI.2.2.2.1) | (exact hI.2.2.2.2.1) | (rw [hI.2.2.2.2.2, hI.2.1.1]; exact fillC_s (by omega) rfl) | grind [upI])
theorem vX3_row_4 (s : MS) (a1 : Int) (a2 : Int) (a3 : Int) (x1 : Int) (x3 : Int) (x4 : Int) (f0 : Int → Int) (f1 : Int → Int) (f2 : Int → Int) (k0 : Int) (hI : k0 = 0 ∧ (x1 = a1 ∧ x3 = a3 ∧ rowOK' a1 a2 a3) ∧ (0 ≤ x4 ∧ x4 ≤ a3) ∧ f0 = upI (s.2 0) a1 a2 ∧ f1 = upI (s.2 1) a1 a3 ∧ f2 = fillC (s.2 2) (60 * a1) x4 0) (c_1 : x3 ≤ x4) : k0 = (0) := by
  (try simp only [bI_0, bI_n, Classical.not_not] at *)
  (try (have hq := hI.2.1.2.2; unfold rowOK' at hq))
  (try unfold lex3)
  (try simp only [bI_0, bI_n, Classical.not_not] at *)
  (try simp (disch := omega) only [i32_id] at *)
  first | done | omega | ((repeat' (with_reducible apply And.intro)) <;> first | assumption | rfl | omega | (exact hI.1) | (exact (rowD_n (fun q => absurd q.1 (by assumption))).symm) | (exact (rowD_n (fun q => absurd q.2.1 (by assumption))).symm) | (exact (rowD_n (fun q => absurd q.2.2.1 (by omega))).symm) | (exact (rowD_n (fun q => absurd q.2.2.2 (by omega))).symm) | (unfold rRow; rw [if_neg (by omega)]) | (unfold rRow; rw [if_pos (by omega), if_pos (by omega)]) | (have hq := hI.2.1.2.2; unfold rowOK' at hq; unfold rRow; rw [if_pos (by omega), if_neg (by omega)]) | (rw [rowD_y hI.2.1.2.2]; exact hI.2.2.2.1) | (rw [rowD_y hI.2.1.2.2]; exact hI.2.2.2.2.1) | (rw [rowD_y hI.2.1.2.2, hI.2.2.2.2.2, show a3 = x4 by omega]) | (unfold rowOK'; omega) | (exact fillC_0 _ _ _) | (have hq := hI.2.1.2.2; unfold rowOK' at hq; omega) | (exact hI.2.1.2.2) | (exact hI.2.2.2.1) | (exact hI.2.2.2.2.1) | (rw [hI.2.2.2.2.2, hI.2.1.1]; exact fillC_s (by omega) rfl) | grind [upI])
theorem vX3_row_5 (s : MS) (a1 : Int) (a2 : Int) (a3 : Int) (x1 : Int) (x3 : Int) (x4 : Int) (f0 : Int → Int) (f1 : Int → Int) (f2 : Int → Int) (k0 : Int) (hI : k0 = 0 ∧ (x1 = a1 ∧ x3 = a3 ∧ rowOK' a1 a2 a3) ∧ (0 ≤ x4 ∧ x4 ≤ a3) ∧ f0 = upI (s.2 0) a1 a2 ∧ f1 = upI (s.2 1) a1 a3 ∧ f2 = fillC (s.2 2) (60 * a1) x4 0) (c_1 : x3 ≤ x4) : 0 = (rRow a1 a2 a3) := by
  (try simp only [bI_0, bI_n, Classical.not_not] at *)
  (try (have hq := hI.2.1.2.2; unfold rowOK' at hq))
  (try unfold lex3)
  (try simp only [bI_0, bI_n, Classical.not_not] at *)
  (try simp (disch := omega) only [i32_id] at *)
  first | done | omega | ((repeat' (with_reducible apply And.intro)) <;> first | assumption | rfl | omega | (exact hI.1) | (exact (rowD_n (fun q => absurd q.1 (by assumption))).symm) | (exact (rowD_n (fun q => absurd q.2.1 (by assumption))).symm) | (exact (rowD_n (fun q => absurd q.2.2.1 (by omega))).symm) | (exact (rowD_n (fun q => absurd q.2.2.2 (by omega))).symm) | (unfold rRow; rw [if_neg (by omega)]) | (unfold rRow; rw [if_pos (by omega), if_pos (by omega)]) | (have hq := hI.2.1.2.2; unfold rowOK' at hq; unfold rRow; rw [if_pos (by omega), if_neg (by omega)]) | (rw [rowD_y hI.2.1.2.2]; exact hI.2.2.2.1) | (rw [rowD_y hI.2.1.2.2]; exact hI.2.2.2.2.1) | (rw [rowD_y hI.2.1.2.2, hI.2.2.2.2.2, show a3 = x4 by omega]) | (unfold rowOK'; omega) | (exact fillC_0 _ _ _) | (have hq := hI.2.1.2.2; unfold rowOK' at hq; omega) | (exact hI.2.1.2.2) | (exact hI.2.2.2.1) | (exact hI.2.2.2.2.1) | (rw [hI.2.2.2.2.2, hI.2.1.1]; exact fillC_s (by omega) rfl) | grind [upI])
theorem vX3_row_6 (s : MS) (a1 : Int) (a2 : Int) (a3 : Int) (x1 : Int) (x3 : Int) (x4 : Int) (f0 : Int → Int) (f1 : Int → Int) (f2 : Int → Int) (k0 : Int) (hI : k0 = 0 ∧ (x1 = a1 ∧ x3 = a3 ∧ rowOK' a1 a2 a3) ∧ (0 ≤ x4 ∧ x4 ≤ a3) ∧ f0 = upI (s.2 0) a1 a2 ∧ f1 = upI (s.2 1) a1 a3 ∧ f2 = fillC (s.2 2) (60 * a1) x4 0) (c_1 : ¬ x3 ≤ x4) : (0 ≤ (i32 ((i32 (60 * x1)) + x4)) ∧ (i32 ((i32 (60 * x1)) + x4)) < 240) := by
  (try simp only [bI_0, bI_n, Classical.not_not] at *)
  (try (have hq := hI.2.1.2.2; unfold rowOK' at hq))
  (try unfold lex3)
  (try simp only [bI_0, bI_n, Classical.not_not] at *)
  (try simp (disch := omega) only [i32_id] at *)
  first | done | omega | ((repeat' (with_reducible apply And.intro)) <;> first | assumption | rfl | omega | (exact hI.1) | (exact (rowD_n (fun q => absurd q.1 (by assumption))).symm) | (exact (rowD_n (fun q => absurd q.2.1 (by assumption))).symm) | (exact (rowD_n (fun q => absurd q.2.2.1 (by omega))).symm) | (exact (rowD_n (fun q => absurd q.2.2.2 (by omega))).symm) | (unfold rRow; rw [if_neg (by omega)]) | (unfold rRow; rw [if_pos (by omega), if_pos (by omega)]) | (have hq := hI.2.1.2.2; unfold rowOK' at hq; unfold rRow; rw [if_pos (by omega), if_neg (by omega)]) | (rw [rowD_y hI.2.1.2.2]; exact hI.2.2.2.1) | (rw [rowD_y hI.2.1.2.2]; exact hI.2.2.2.2.1) | (rw [rowD_y hI.2.1.2.2, hI.2.2.2.2.2, show a3 = x4 by omega]) | (unfold rowOK'; omega) | (exact fillC_0 _ _ _) | (have hq := hI.2.1.2.2; unfold rowOK' at hq; omega) | (exact hI.2.1.2.2) | (exact hI.2.2.2.1) | (exact hI.2.2.2.2.1) | (rw [hI.2.2.2.2.2, hI.2.1.1]; exact fillC_s (by omega) rfl) | grind [upI])
theorem vX3_row_7 (s : MS) (a1 : Int) (a2 : Int) (a3 : Int) (x1 : Int) (x3 : Int) (x4 : Int) (f0 : Int → Int) (f1 : Int → Int) (f2 : Int → Int) (k0 : Int) (hI : k0 = 0 ∧ (x1 = a1 ∧ x3 = a3 ∧ rowOK' a1 a2 a3) ∧ (0 ≤ x4 ∧ x4 ≤ a3) ∧ f0 = upI (s.2 0) a1 a2 ∧ f1 = upI (s.2 1) a1 a3 ∧ f2 = fillC (s.2 2) (60 * a1) x4 0) (c_1 : ¬ x3 ≤ x4) (o_2 : (0 ≤ (i32 ((i32 (60 * x1)) + x4)) ∧ (i32 ((i32 (60 * x1)) + x4)) < 240)) : k0 = 0 ∧ (x1 = a1 ∧ x3 = a3 ∧ rowOK' a1 a2 a3) ∧ (0 ≤ (i32 (x4 + 1)) ∧ (i32 (x4 + 1)) ≤ a3) ∧ f0 = upI (s.2 0) a1 a2 ∧ f1 = upI (s.2 1) a1 a3 ∧ (upI f2 (i32 ((i32 (60 * x1)) + x4)) 0) = fillC (s.2 2) (60 * a1) (i32 (x4 + 1)) 0 := by
  (try simp only [bI_0, bI_n, Classical.not_not] at *)
  (try (have hq := hI.2.1.2.2; unfold rowOK' at hq))
  (try unfold lex3)
  (try simp only [bI_0, bI_n, Classical.not_not] at *)
  (try simp (disch := omega) only [i32_id] at *)
  first | done | omega | ((repeat' (with_reducible apply And.intro)) <;> first | assumption | rfl | omega | (exact hI.1) | (exact (rowD_n (fun q => absurd q.1 (by assumption))).symm) | (exact (rowD_n (fun q => absurd q.2.1 (by assumption))).symm) | (exact (rowD_n (fun q => absurd q.2.2.1 (by omega))).symm) | (exact (rowD_n (fun q => absurd q.2.2.2 (by omega))).symm) | (unfold rRow; rw [if_neg (by omega)]) | (unfold rRow; rw [if_pos (by omega), if_pos (by omega)]) | (have hq := hI.2.1.2.2; unfold rowOK' at hq; unfold rRow; rw [if_pos (by omega), if_neg (by omega)]) | (rw [rowD_y hI.2.1.2.2]; exact hI.2.2.2.1) | (rw [rowD_y hI.2.1.2.2]; exact hI.2.2.2.2.1) | (rw [rowD_y hI.2.1.2.2, hI.2.2.2.2.2, show a3 = x4 by omega]) | (unfold rowOK'; omega) | (exact fillC_0 _ _ _) | (have hq := hI.2.1.2.2; unfold rowOK' at hq; omega) | (exact hI.2.1.2.2) | (exact hI.2.2.2.1) | (exact hI.2.2.2.2.1) | (rw [hI.2.2.2.2.2, hI.2.1.1]; exact fillC_s (by omega) rfl) | grind [upI])
theorem vX3_row_8 (s : MS) (a1 : Int) (a2 : Int) (a3 : Int) (x1 : Int) (x3 : Int) (x4 : Int) (f0 : Int → Int) (f1 : Int → Int) (f2 : Int → Int) (k0 : Int) (hI : k0 = 0 ∧ (x1 = a1 ∧ x3 = a3 ∧ rowOK' a1 a2 a3) ∧ (0 ≤ x4 ∧ x4 ≤ a3) ∧ f0 = upI (s.2 0) a1 a2 ∧ f1 = upI (s.2 1) a1 a3 ∧ f2 = fillC (s.2 2) (60 * a1) x4 0) (c_1 : ¬ x3 ≤ x4) (o_2 : (0 ≤ (i32 ((i32 (60 * x1)) + x4)) ∧ (i32 ((i32 (60 * x1)) + x4)) < 240)) : lex3 0 0 ((a3 - (i32 (x4 + 1))).toNat) 0 0 ((a3 - x4).toNat) := by
  (try simp only [bI_0, bI_n, Classical.not_not] at *)
  (try (have hq := hI.2.1.2.2; unfold rowOK' at hq))
  (try unfold lex3)
  (try simp only [bI_0, bI_n, Classical.not_not] at *)
  (try simp (disch := omega) only [i32_id] at *)
  first | done | omega | ((repeat' (with_reducible apply And.intro)) <;> first | assumption | rfl | omega | (exact hI.1) | (exact (rowD_n (fun q => absurd q.1 (by assumption))).symm) | (exact (rowD_n (fun q => absurd q.2.1 (by assumption))).symm) | (exact (rowD_n (fun q => absurd q.2.2.1 (by omega))).symm) | (exact (rowD_n (fun q => absurd q.2.2.2 (by omega))).symm) | (unfold rRow; rw [if_neg (by omega)]) | (unfold rRow; rw [if_pos (by omega), if_pos (by omega)]) | (have hq := hI.2.1.2.2; unfold rowOK' at hq; unfold rRow; rw [if_pos (by omega), if_neg (by omega)]) | (rw [rowD_y hI.2.1.2.2]; exact hI.2.2.2.1) | (rw [rowD_y hI.2.1.2.2]; exact hI.2.2.2.2.1) | (rw [rowD_y hI.2.1.2.2, hI.2.2.2.2.2, show a3 = x4 by omega]) | (unfold rowOK'; omega) | (exact fillC_0 _ _ _) | (have hq := hI.2.1.2.2; unfold rowOK' at hq; omega) | (exact hI.2.1.2.2) | (exact hI.2.2.2.1) | (exact hI.2.2.2.2.1) | (rw [hI.2.2.2.2.2, hI.2.1.1]; exact fillC_s (by omega) rfl) | grind [upI])
theorem vX3_row_9 (s : MS) (a1 : Int) (a2 : Int) (a3 : Int) (c_2 : (bI (0 ≤ a1 ∧ a1 ≤ 3)) = 0) : (s.2 0) = (rowD a1 a2 a3 (upI (s.2 0) a1 a2) (s.2 0)) := by
  (try simp only [bI_0, bI_n, Classical.not_not] at *)
  (try (have hq := hI.2.1.2.2; unfold rowOK' at hq))
  (try unfold lex3)
  (try simp only [bI_0, bI_n, Classical.not_not] at *)
  (try simp (disch := omega) only [i32_id] at *)
  first | done | omega | ((repeat' (with_reducible apply And.intro)) <;> first | assumption | rfl | omega | (exact hI.1) | (exact (rowD_n (fun q => absurd q.1 (by assumption))).symm) | (exact (rowD_n (fun q => absurd q.2.1 (by assumption))).symm) | (exact (rowD_n (fun q => absurd q.2.2.1 (by omega))).symm) | (exact (rowD_n (fun q => absurd q.2.2.2 (by omega))).symm) | (unfold rRow; rw [if_neg (by omega)]) | (unfold rRow; rw [if_pos (by omega), if_pos (by omega)]) | (have hq := hI.2.1.2.2; unfold rowOK' at hq; unfold rRow; rw [if_pos (by omega), if_neg (by omega)]) | (rw [rowD_y hI.2.1.2.2]; exact hI.2.2.2.1) | (rw [rowD_y hI.2.1.2.2]; exact hI.2.2.2.2.1) | (rw [rowD_y hI.2.1.2.2, hI.2.2.2.2.2, show a3 = x4 by omega]) | (unfold rowOK'; omega) | (exact fillC_0 _ _ _) | (have hq := hI.2.1.2.2; unfold rowOK' at hq; omega) | (exact hI.2.1.2.2) | (exact hI.2.2.2.1) | (exact hI.2.2.2.2.1) | (rw [hI.2.2.2.2.2, hI.2.1.1]; exact fillC_s (by omega) rfl) | grind [upI])
theorem vX3_row_10 (s : MS) (a1 : Int) (a2 : Int) (a3 : Int) (c_2 : (bI (0 ≤ a1 ∧ a1 ≤ 3)) = 0) : (s.2 1) = (rowD a1 a2 a3 (upI (s.2 1) a1 a3) (s.2 1)) := by
  (try simp only [bI_0, bI_n, Classical.not_not] at *)
  (try (have hq := hI.2.1.2.2; unfold rowOK' at hq))
  (try unfold lex3)
  (try simp only [bI_0, bI_n, Classical.not_not] at *)
  (try simp (disch := omega) only [i32_id] at *)
  first | done | omega | ((repeat' (with_reducible apply And.intro)) <;> first | assumption | rfl | omega | (exact hI.1) | (exact (rowD_n (fun q => absurd q.1 (by assumption))).symm) | (exact (rowD_n (fun q => absurd q.2.1 (by assumption))).symm) | (exact (rowD_n (fun q => absurd q.2.2.1 (by omega))).symm) | (exact (rowD_n (fun q => absurd q.2.2.2 (by omega))).symm) | (unfold rRow; rw [if_neg (by omega)]) | (unfold rRow; rw [if_pos (by omega), if_pos (by omega)]) | (have hq := hI.2.1.2.2; unfold rowOK' at hq; unfold rRow; rw [if_pos (by omega), if_neg (by omega)]) | (rw [rowD_y hI.2.1.2.2]; exact hI.2.2.2.1) | (rw [rowD_y hI.2.1.2.2]; exact hI.2.2.2.2.1) | (rw [rowD_y hI.2.1.2.2, hI.2.2.2.2.2, show a3 = x4 by omega]) | (unfold rowOK'; omega) | (exact fillC_0 _ _ _) | (have hq := hI.2.1.2.2; unfold rowOK' at hq; omega) | (exact hI.2.1.2.2) | (exact hI.2.2.2.1) | (exact hI.2.2.2.2.1) | (rw [hI.2.2.2.2.2, hI.2.1.1]; exact fillC_s (by omega) rfl) | grind [upI])
theorem vX3_row_11 (s : MS) (a1 : Int) (a2 : Int) (a3 : Int) (c_2 : (bI (0 ≤ a1 ∧ a1 ≤ 3)) = 0) : (s.2 2) = (rowD a1 a2 a3 (fillC (s.2 2) (60 * a1) a3 0) (s.2 2)) := by
  (try simp only [bI_0, bI_n, Classical.not_not] at *)
  (try (have hq := hI.2.1.2.2; unfold rowOK' at hq))
  (try unfold lex3)
  (try simp only [bI_0, bI_n, Classical.not_not] at *)
  (try simp (disch := omega) only [i32_id] at *)
  first | done | omega | ((repeat' (with_reducible apply And.intro)) <;> first | assumption | rfl | omega | (exact hI.1) | (exact (rowD_n (fun q => absurd q.1 (by assumption))).symm) | (exact (rowD_n (fun q => absurd q.2.1 (by assumption))).symm) | (exact (rowD_n (fun q => absurd q.2.2.1 (by omega))).symm) | (exact (rowD_n (fun q => absurd q.2.2.2 (by omega))).symm) | (unfold rRow; rw [if_neg (by omega)]) | (unfold rRow; rw [if_pos (by omega), if_pos (by omega)]) | (have hq := hI.2.1.2.2; unfold rowOK' at hq; unfold rRow; rw [if_pos (by omega), if_neg (by omega)]) | (rw [rowD_y hI.2.1.2.2]; exact hI.2.2.2.1) | (rw [rowD_y hI.2.1.2.2]; exact hI.2.2.2.2.1) | (rw [rowD_y hI.2.1.2.2, hI.2.2.2.2.2, show a3 = x4 by omega]) | (unfold rowOK'; omega) | (exact fillC_0 _ _ _) | (have hq := hI.2.1.2.2; unfold rowOK' at hq; omega) | (exact hI.2.1.2.2) | (exact hI.2.2.2.1) | (exact hI.2.2.2.2.1) | (rw [hI.2.2.2.2.2, hI.2.1.1]; exact fillC_s (by omega) rfl) | grind [upI])
theorem vX3_row_12 (s : MS) (a1 : Int) (a2 : Int) (a3 : Int) (c_2 : (bI (0 ≤ a1 ∧ a1 ≤ 3)) = 0) : (-2) = (rRow a1 a2 a3) := by
  (try simp only [bI_0, bI_n, Classical.not_not] at *)
  (try (have hq := hI.2.1.2.2; unfold rowOK' at hq))
  (try unfold lex3)
  (try simp only [bI_0, bI_n, Classical.not_not] at *)
  (try simp (disch := omega) only [i32_id] at *)
  first | done | omega | ((repeat' (with_reducible apply And.intro)) <;> first | assumption | rfl | omega | (exact hI.1) | (exact (rowD_n (fun q => absurd q.1 (by assumption))).symm) | (exact (rowD_n (fun q => absurd q.2.1 (by assumption))).symm) | (exact (rowD_n (fun q => absurd q.2.2.1 (by omega))).symm) | (exact (rowD_n (fun q => absurd q.2.2.2 (by omega))).symm) | (unfold rRow; rw [if_neg (by omega)]) | (unfold rRow; rw [if_pos (by omega), if_pos (by omega)]) | (have hq := hI.2.1.2.2; unfold rowOK' at hq; unfold rRow; rw [if_pos (by omega), if_neg (by omega)]) | (rw [rowD_y hI.2.1.2.2]; exact hI.2.2.2.1) | (rw [rowD_y hI.2.1.2.2]; exact hI.2.2.2.2.1) | (rw [rowD_y hI.2.1.2.2, hI.2.2.2.2.2, show a3 = x4 by omega]) | (unfold rowOK'; omega) | (exact fillC_0 _ _ _) | (have hq := hI.2.1.2.2; unfold rowOK' at hq; omega) | (exact hI.2.1.2.2) | (exact hI.2.2.2.1) | (exact hI.2.2.2.2.1) | (rw [hI.2.2.2.2.2, hI.2.1.1]; exact fillC_s (by omega) rfl) | grind [upI])
theorem vX3_row_13 (s : MS) (a1 : Int) (a2 : Int) (a3 : Int) (c_2 : ¬ (bI (0 ≤ a1 ∧ a1 ≤ 3)) = 0) (c_4 : (bI ((0 : Int) ≤ a2 ∧ a2 ≤ (3 : Int))) = 0) : (s.2 0) = (rowD a1 a2 a3 (upI (s.2 0) a1 a2) (s.2 0)) := by
  (try simp only [bI_0, bI_n, Classical.not_not] at *)
  (try (have hq := hI.2.1.2.2; unfold rowOK' at hq))
  (try unfold lex3)
  (try simp only [bI_0, bI_n, Classical.not_not] at *)
  (try simp (disch := omega) only [i32_id] at *)
  first | done | omega | ((repeat' (with_reducible apply And.intro)) <;> first | assumption | rfl | omega | (exact hI.1) | (exact (rowD_n (fun q => absurd q.1 (by assumption))).symm) | (exact (rowD_n (fun q => absurd q.2.1 (by assumption))).symm) | (exact (rowD_n (fun q => absurd q.2.2.1 (by omega))).symm) | (exact (rowD_n (fun q => absurd q.2.2.2 (by omega))).symm) | (unfold rRow; rw [if_neg (by omega)]) | (unfold rRow; rw [if_pos (by omega), if_pos (by omega)]) | (have hq := hI.2.1.2.2; unfold rowOK' at hq; unfold rRow; rw [if_pos (by omega), if_neg (by omega)]) | (rw [rowD_y hI.2.1.2.2]; exact hI.2.2.2.1) | (rw [rowD_y hI.2.1.2.2]; exact hI.2.2.2.2.1) | (rw [rowD_y hI.2.1.2.2, hI.2.2.2.2.2, show a3 = x4 by omega]) | (unfold rowOK'; omega) | (exact fillC_0 _ _ _) | (have hq := hI.2.1.2.2; unfold rowOK' at hq; omega) | (exact hI.2.1.2.2) | (exact hI.2.2.2.1) | (exact hI.2.2.2.2.1) | (rw [hI.2.2.2.2.2, hI.2.1.1]; exact fillC_s (by omega) rfl) | grind [upI])
theorem vX3_row_14 (s : MS) (a1 : Int) (a2 : Int) (a3 : Int) (c_2 : ¬ (bI (0 ≤ a1 ∧ a1 ≤ 3)) = 0) (c_4 : (bI ((0 : Int) ≤ a2 ∧ a2 ≤ (3 : Int))) = 0) : (s.2 1) = (rowD a1 a2 a3 (upI (s.2 1) a1 a3) (s.2 1)) := by
  (try simp only [bI_0, bI_n, Classical.not_not] at *)
  (try (have hq := hI.2.1.2.2; unfold rowOK' at hq))
  (try unfold lex3)
  (try simp only [bI_0, bI_n, Classical.not_not] at *)
  (try simp (disch := omega) only [i32_id] at *)
  first | done | omega | ((repeat' (with_reducible apply And.intro)) <;> first | assumption | rfl | omega | (exact hI.1) | (exact (rowD_n (fun q => absurd q.1 (by assumption))).symm) | (exact (rowD_n (fun q => absurd q.2.1 (by assumption))).symm) | (exact (rowD_n (fun q => absurd q.2.2.1 (by omega))).symm) | (exact (rowD_n (fun q => absurd q.2.2.2 (by omega))).symm) | (unfold rRow; rw [if_neg (by omega)]) | (unfold rRow; rw [if_pos (by omega), if_pos (by omega)]) | (have hq := hI.2.1.2.2; unfold rowOK' at hq; unfold rRow; rw [if_pos (by omega), if_neg (by omega)]) | (rw [rowD_y hI.2.1.2.2]; exact hI.2.2.2.1) | (rw [rowD_y hI.2.1.2.2]; exact hI.2.2.2.2.1) | (rw [rowD_y hI.2.1.2.2, hI.2.2.2.2.2, show a3 = x4 by omega]) | (unfold rowOK'; omega) | (exact fillC_0 _ _ _) | (have hq := hI.2.1.2.2; unfold rowOK' at hq; omega) | (exact hI.2.1.2.2) | (exact hI.2.2.2.1) | (exact hI.2.2.2.2.1) | (rw [hI.2.2.2.2.2, hI.2.1.1]; exact fillC_s (by omega) rfl) | grind [upI])
theorem vX3_row_15 (s : MS) (a1 : Int) (a2 : Int) (a3 : Int) (c_2 : ¬ (bI (0 ≤ a1 ∧ a1 ≤ 3)) = 0) (c_4 : (bI ((0 : Int) ≤ a2 ∧ a2 ≤ (3 : Int))) = 0) : (s.2 2) = (rowD a1 a2 a3 (fillC (s.2 2) (60 * a1) a3 0) (s.2 2)) := by
  (try simp only [bI_0, bI_n, Classical.not_not] at *)
  (try (have hq := hI.2.1.2.2; unfold rowOK' at hq))
  (try unfold lex3)
  (try simp only [bI_0, bI_n, Classical.not_not] at *)
  (try simp (disch := omega) only [i32_id] at *)
  first | done | omega | ((repeat' (with_reducible apply And.intro)) <;> first | assumption | rfl | omega | (exact hI.1) | (exact (rowD_n (fun q => absurd q.1 (by assumption))).symm) | (exact (rowD_n (fun q => absurd q.2.1 (by assumption))).symm) | (exact (rowD_n (fun q => absurd q.2.2.1 (by omega))).symm) | (exact (rowD_n (fun q => absurd q.2.2.2 (by omega))).symm) | (unfold rRow; rw [if_neg (by omega)]) | (unfold rRow; rw [if_pos (by omega), if_pos (by omega)]) | (have hq := hI.2.1.2.2; unfold rowOK' at hq; unfold rRow; rw [if_pos (by omega), if_neg (by omega)]) | (rw [rowD_y hI.2.1.2.2]; exact hI.2.2.2.1) | (rw [rowD_y hI.2.1.2.2]; exact hI.2.2.2.2.1) | (rw [rowD_y hI.2.1.2.2, hI.2.2.2.2.2, show a3 = x4 by omega]) | (unfold rowOK'; omega) | (exact fillC_0 _ _ _) | (have hq := hI.2.1.2.2; unfold rowOK' at hq; omega) | (exact hI.2.1.2.2) | (exact hI.2.2.2.1) | (exact hI.2.2.2.2.1) | (rw [hI.2.2.2.2.2, hI.2.1.1]; exact fillC_s (by omega) rfl) | grind [upI])
theorem vX3_row_16 (s : MS) (a1 : Int) (a2 : Int) (a3 : Int) (c_2 : ¬ (bI (0 ≤ a1 ∧ a1 ≤ 3)) = 0) (c_4 : (bI ((0 : Int) ≤ a2 ∧ a2 ≤ (3 : Int))) = 0) : (-2) = (rRow a1 a2 a3) := by
  (try simp only [bI_0, bI_n, Classical.not_not] at *)
  (try (have hq := hI.2.1.2.2; unfold rowOK' at hq))
  (try unfold lex3)
  (try simp only [bI_0, bI_n, Classical.not_not] at *)
  (try simp (disch := omega) only [i32_id] at *)
  first | done | omega | ((repeat' (with_reducible apply And.intro)) <;> first | assumption | rfl | omega | (exact hI.1) | (exact (rowD_n (fun q => absurd q.1 (by assumption))).symm) | (exact (rowD_n (fun q => absurd q.2.1 (by assumption))).symm) | (exact (rowD_n (fun q => absurd q.2.2.1 (by omega))).symm) | (exact (rowD_n (fun q => absurd q.2.2.2 (by omega))).symm) | (unfold rRow; rw [if_neg (by omega)]) | (unfold rRow; rw [if_pos (by omega), if_pos (by omega)]) | (have hq := hI.2.1.2.2; unfold rowOK' at hq; unfold rRow; rw [if_pos (by omega), if_neg (by omega)]) | (rw [rowD_y hI.2.1.2.2]; exact hI.2.2.2.1) | (rw [rowD_y hI.2.1.2.2]; exact hI.2.2.2.2.1) | (rw [rowD_y hI.2.1.2.2, hI.2.2.2.2.2, show a3 = x4 by omega]) | (unfold rowOK'; omega) | (exact fillC_0 _ _ _) | (have hq := hI.2.1.2.2; unfold rowOK' at hq; omega) | (exact hI.2.1.2.2) | (exact hI.2.2.2.1) | (exact hI.2.2.2.2.1) | (rw [hI.2.2.2.2.2, hI.2.1.1]; exact fillC_s (by omega) rfl) | grind [upI])
theorem vX3_row_17 (s : MS) (a1 : Int) (a2 : Int) (a3 : Int) (c_2 : ¬ (bI (0 ≤ a1 ∧ a1 ≤ 3)) = 0) (c_4 : ¬ (bI ((0 : Int) ≤ a2 ∧ a2 ≤ (3 : Int))) = 0) (c_5 : a3 ≤ 60) (c_6 : 0 ≤ a3) : (0 ≤ a1 ∧ a1 < 4) := by
  (try simp only [bI_0, bI_n, Classical.not_not] at *)
  (try (have hq := hI.2.1.2.2; unfold rowOK' at hq))
  (try unfold lex3)
  (try simp only [bI_0, bI_n, Classical.not_not] at *)
  (try simp (disch := omega) only [i32_id] at *)
  first | done | omega | ((repeat' (with_reducible apply And.intro)) <;> first | assumption | rfl | omega | (exact hI.1) | (exact (rowD_n (fun q => absurd q.1 (by assumption))).symm) | (exact (rowD_n (fun q => absurd q.2.1 (by assumption))).symm) | (exact (rowD_n (fun q => absurd q.2.2.1 (by omega))).symm) | (exact (rowD_n (fun q => absurd q.2.2.2 (by omega))).symm) | (unfold rRow; rw [if_neg (by omega)]) | (unfold rRow; rw [if_pos (by omega), if_pos (by omega)]) | (have hq := hI.2.1.2.2; unfold rowOK' at hq; unfold rRow; rw [if_pos (by omega), if_neg (by omega)]) | (rw [rowD_y hI.2.1.2.2]; exact hI.2.2.2.1) | (rw [rowD_y hI.2.1.2.2]; exact hI.2.2.2.2.1) | (rw [rowD_y hI.2.1.2.2, hI.2.2.2.2.2, show a3 = x4 by omega]) | (unfold rowOK'; omega) | (exact fillC_0 _ _ _) | (have hq := hI.2.1.2.2; unfold rowOK' at hq; omega) | (exact hI.2.1.2.2) | (exact hI.2.2.2.1) | (exact hI.2.2.2.2.1) | (rw [hI.2.2.2.2.2, hI.2.1.1]; exact fillC_s (by omega) rfl) | grind [upI])
theorem vX3_row_18 (s : MS) (a1 : Int) (a2 : Int) (a3 : Int) (c_2 : ¬ (bI (0 ≤ a1 ∧ a1 ≤ 3)) = 0) (c_4 : ¬ (bI ((0 : Int) ≤ a2 ∧ a2 ≤ (3 : Int))) = 0) (c_5 : a3 ≤ 60) (c_6 : 0 ≤ a3) (o_7 : (0 ≤ a1 ∧ a1 < 4)) : (0 : Int) = 0 ∧ (a1 = a1 ∧ a3 = a3 ∧ rowOK' a1 a2 a3) ∧ (0 ≤ (0 : Int) ∧ (0 : Int) ≤ a3) ∧ (upI (s.2 0) a1 a2) = upI (s.2 0) a1 a2 ∧ (upI (s.2 1) a1 a3) = upI (s.2 1) a1 a3 ∧ (s.2 2) = fillC (s.2 2) (60 * a1) (0 : Int) 0 := by
  (try simp only [bI_0, bI_n, Classical.not_not] at *)
  (try (have hq := hI.2.1.2.2; unfold rowOK' at hq))
  (try unfold lex3)
  (try simp only [bI_0, bI_n, Classical.not_not] at *)
  (try simp (disch := omega) only [i32_id] at *)
  first | done | omega | ((repeat' (with_reducible apply And.intro)) <;> first | assumption | rfl | omega | (exact hI.1) | (exact (rowD_n (fun q => absurd q.1 (by assumption))).symm) | (exact (rowD_n (fun q => absurd q.2.1 (by assumption))).symm) | (exact (rowD_n (fun q => absurd q.2.2.1 (by omega))).symm) | (exact (rowD_n (fun q => absurd q.2.2.2 (by omega))).symm) | (unfold rRow; rw [if_neg (by omega)]) | (unfold rRow; rw [if_pos (by omega), if_pos (by omega)]) | (have hq := hI.2.1.2.2; unfold rowOK' at hq; unfold rRow; rw [if_pos (by omega), if_neg (by omega)]) | (rw [rowD_y hI.2.1.2.2]; exact hI.2.2.2.1) | (rw [rowD_y hI.2.1.2.2]; exact hI.2.2.2.2.1) | (rw [rowD_y hI.2.1.2.2, hI.2.2.2.2.2, show a3 = x4 by omega]) | (unfold rowOK'; omega) | (exact fillC_0 _ _ _) | (have hq := hI.2.1.2.2; unfold rowOK' at hq; omega) | (exact hI.2.1.2.2) | (exact hI.2.2.2.1) | (exact hI.2.2.2.2.1) | (rw [hI.2.2.2.2.2, hI.2.1.1]; exact fillC_s (by omega) rfl) | grind [upI])
theorem vX3_row_19 (s : MS) (a1 : Int) (a2 : Int) (a3 : Int) (c_2 : ¬ (bI (0 ≤ a1 ∧ a1 ≤ 3)) = 0) (c_4 : ¬ (bI ((0 : Int) ≤ a2 ∧ a2 ≤ (3 : Int))) = 0) (c_5 : a3 ≤ 60) (c_6 : ¬ 0 ≤ a3) : (s.2 0) = (rowD a1 a2 a3 (upI (s.2 0) a1 a2) (s.2 0)) := by
  (try simp only [bI_0, bI_n, Classical.not_not] at *)
  (try (have hq := hI.2.1.2.2; unfold rowOK' at hq))
  (try unfold lex3)
  (try simp only [bI_0, bI_n, Classical.not_not] at *)
  (try simp (disch := omega) only [i32_id] at *)
  first | done | omega | ((repeat' (with_reducible apply And.intro)) <;> first | assumption | rfl | omega | (exact hI.1) | (exact (rowD_n (fun q => absurd q.1 (by assumption))).symm) | (exact (rowD_n (fun q => absurd q.2.1 (by assumption))).symm) | (exact (rowD_n (fun q => absurd q.2.2.1 (by omega))).symm) | (exact (rowD_n (fun q => absurd q.2.2.2 (by omega))).symm) | (unfold rRow; rw [if_neg (by omega)]) | (unfold rRow; rw [if_pos (by omega), if_pos (by omega)]) | (have hq := hI.2.1.2.2; unfold rowOK' at hq; unfold rRow; rw [if_pos (by omega), if_neg (by omega)]) | (rw [rowD_y hI.2.1.2.2]; exact hI.2.2.2.1) | (rw [rowD_y hI.2.1.2.2]; exact hI.2.2.2.2.1) | (rw [rowD_y hI.2.1.2.2, hI.2.2.2.2.2, show a3 = x4 by omega]) | (unfold rowOK'; omega) | (exact fillC_0 _ _ _) | (have hq := hI.2.1.2.2; unfold rowOK' at hq; omega) | (exact hI.2.1.2.2) | (exact hI.2.2.2.1) | (exact hI.2.2.2.2.1) | (rw [hI.2.2.2.2.2, hI.2.1.1]; exact fillC_s (by omega) rfl) | grind [upI])
theorem vX3_row_20 (s : MS) (a1 : Int) (a2 : Int) (a3 : Int) (c_2 : ¬ (bI (0 ≤ a1 ∧ a1 ≤ 3)) = 0) (c_4 : ¬ (bI ((0 : Int) ≤ a2 ∧ a2 ≤ (3 : Int))) = 0) (c_5 : a3 ≤ 60) (c_6 : ¬ 0 ≤ a3) : (s.2 1) = (rowD a1 a2 a3 (upI (s.2 1) a1 a3) (s.2 1)) := by
  (try simp only [bI_0, bI_n, Classical.not_not] at *)
  (try (have hq := hI.2.1.2.2; unfold rowOK' at hq))
  (try unfold lex3)
  (try simp only [bI_0, bI_n, Classical.not_not] at *)
  (try simp (disch := omega) only [i32_id] at *)
  first | done | omega | ((repeat' (with_reducible apply And.intro)) <;> first | assumption | rfl | omega | (exact hI.1) | (exact (rowD_n (fun q => absurd q.1 (by assumption))).symm) | (exact (rowD_n (fun q => absurd q.2.1 (by assumption))).symm) | (exact (rowD_n (fun q => absurd q.2.2.1 (by omega))).symm) | (exact (rowD_n (fun q => absurd q.2.2.2 (by omega))).symm) | (unfold rRow; rw [if_neg (by omega)]) | (unfold rRow; rw [if_pos (by omega), if_pos (by omega)]) | (have hq := hI.2.1.2.2; unfold rowOK' at hq; unfold rRow; rw [if_pos (by omega), if_neg (by omega)]) | (rw [rowD_y hI.2.1.2.2]; exact hI.2.2.2.1) | (rw [rowD_y hI.2.1.2.2]; exact hI.2.2.2.2.1) | (rw [rowD_y hI.2.1.2.2, hI.2.2.2.2.2, show a3 = x4 by omega]) | (unfold rowOK'; omega) | (exact fillC_0 _ _ _) | (have hq := hI.2.1.2.2; unfold rowOK' at hq; omega) | (exact hI.2.1.2.2) | (exact hI.2.2.2.1) | (exact hI.2.2.2.2.1) | (rw [hI.2.2.2.2.2, hI.2.1.1]; exact fillC_s (by omega) rfl) | grind [upI])
theorem vX3_row_21 (s : MS) (a1 : Int) (a2 : Int) (a3 : Int) (c_2 : ¬ (bI (0 ≤ a1 ∧ a1 ≤ 3)) = 0) (c_4 : ¬ (bI ((0 : Int) ≤ a2 ∧ a2 ≤ (3 : Int))) = 0) (c_5 : a3 ≤ 60) (c_6 : ¬ 0 ≤ a3) : (s.2 2) = (rowD a1 a2 a3 (fillC (s.2 2) (60 * a1) a3 0) (s.2 2)) := by
  (try simp only [bI_0, bI_n, Classical.not_not] at *)
  (try (have hq := hI.2.1.2.2; unfold rowOK' at hq))
  (try unfold lex3)
  (try simp only [bI_0, bI_n, Classical.not_not] at *)
  (try simp (disch := omega) only [i32_id] at *)
  first | done | omega | ((repeat' (with_reducible apply And.intro)) <;> first | assumption | rfl | omega | (exact hI.1) | (exact (rowD_n (fun q => absurd q.1 (by assumption))).symm) | (exact (rowD_n (fun q => absurd q.2.1 (by assumption))).symm) | (exact (rowD_n (fun q => absurd q.2.2.1 (by omega))).symm) | (exact (rowD_n (fun q => absurd q.2.2.2 (by omega))).symm) | (unfold rRow; rw [if_neg (by omega)]) | (unfold rRow; rw [if_pos (by omega), if_pos (by omega)]) | (have hq := hI.2.1.2.2; unfold rowOK' at hq; unfold rRow; rw [if_pos (by omega), if_neg (by omega)]) | (rw [rowD_y hI.2.1.2.2]; exact hI.2.2.2.1) | (rw [rowD_y hI.2.1.2.2]; exact hI.2.2.2.2.1) | (rw [rowD_y hI.2.1.2.2, hI.2.2.2.2.2, show a3 = x4 by omega]) | (unfold rowOK'; omega) | (exact fillC_0 _ _ _) | (have hq := hI.2.1.2.2; unfold rowOK' at hq; omega) | (exact hI.2.1.2.2) | (exact hI.2.2.2.1) | (exact hI.2.2.2.2.1) | (rw [hI.2.2.2.2.2, hI.2.1.1]; exact fillC_s (by omega) rfl) | grind [upI])
theorem vX3_row_22 (s : MS) (a1 : Int) (a2 : Int) (a3 : Int) (c_2 : ¬ (bI (0 ≤ a1 ∧ a1 ≤ 3)) = 0) (c_4 : ¬ (bI ((0 : Int) ≤ a2 ∧ a2 ≤ (3 : Int))) = 0) (c_5 : a3 ≤ 60) (c_6 : ¬ 0 ≤ a3) : (-3) = (rRow a1 a2 a3) := by
  (try simp only [bI_0, bI_n, Classical.not_not] at *)
  (try (have hq := hI.2.1.2.2; unfold rowOK' at hq))
  (try unfold lex3)
  (try simp only [bI_0, bI_n, Classical.not_not] at *)
  (try simp (disch := omega) only [i32_id] at *)
  first | done | omega | ((repeat' (with_reducible apply And.intro)) <;> first | assumption | rfl | omega | (exact hI.1) | (exact (rowD_n (fun q => absurd q.1 (by assumption))).symm) | (exact (rowD_n (fun q => absurd q.2.1 (by assumption))).symm) | (exact (rowD_n (fun q => absurd q.2.2.1 (by omega))).symm) | (exact (rowD_n (fun q => absurd q.2.2.2 (by omega))).symm) | (unfold rRow; rw [if_neg (by omega)]) | (unfold rRow; rw [if_pos (by omega), if_pos (by omega)]) | (have hq := hI.2.1.2.2; unfold rowOK' at hq; unfold rRow; rw [if_pos (by omega), if_neg (by omega)]) | (rw [rowD_y hI.2.1.2.2]; exact hI.2.2.2.1) | (rw [rowD_y hI.2.1.2.2]; exact hI.2.2.2.2.1) | (rw [rowD_y hI.2.1.2.2, hI.2.2.2.2.2, show a3 = x4 by omega]) | (unfold rowOK'; omega) | (exact fillC_0 _ _ _) | (have hq := hI.2.1.2.2; unfold rowOK' at hq; omega) | (exact hI.2.1.2.2) | (exact hI.2.2.2.1) | (exact hI.2.2.2.2.1) | (rw [hI.2.2.2.2.2, hI.2.1.1]; exact fillC_s (by omega) rfl) | grind [upI])
theorem vX3_row_23 (s : MS) (a1 : Int) (a2 : Int) (a3 : Int) (c_2 : ¬ (bI (0 ≤ a1 ∧ a1 ≤ 3)) = 0) (c_4 : ¬ (bI ((0 : Int) ≤ a2 ∧ a2 ≤ (3 : Int))) = 0) (c_5 : ¬ a3 ≤ 60) : (s.2 0) = (rowD a1 a2 a3 (upI (s.2 0) a1 a2) (s.2 0)) := by
  (try simp only [bI_0, bI_n, Classical.not_not] at *)
  (try (have hq := hI.2.1.2.2; unfold rowOK' at hq))
  (try unfold lex3)
  (try simp only [bI_0, bI_n, Classical.not_not] at *)
  (try simp (disch := omega) only [i32_id] at *)
  first | done | omega | ((repeat' (with_reducible apply And.intro)) <;> first | assumption | rfl | omega | (exact hI.1) | (exact (rowD_n (fun q => absurd q.1 (by assumption))).symm) | (exact (rowD_n (fun q => absurd q.2.1 (by assumption))).symm) | (exact (rowD_n (fun q => absurd q.2.2.1 (by omega))).symm) | (exact (rowD_n (fun q => absurd q.2.2.2 (by omega))).symm) | (unfold rRow; rw [if_neg (by omega)]) | (unfold rRow; rw [if_pos (by omega), if_pos (by omega)]) | (have hq := hI.2.1.2.2; unfold rowOK' at hq; unfold rRow; rw [if_pos (by omega), if_neg (by omega)]) | (rw [rowD_y hI.2.1.2.2]; exact hI.2.2.2.1) | (rw [rowD_y hI.2.1.2.2]; exact hI.2.2.2.2.1) | (rw [rowD_y hI.2.1.2.2, hI.2.2.2.2.2, show a3 = x4 by omega]) | (unfold rowOK'; omega) | (exact fillC_0 _ _ _) | (have hq := hI.2.1.2.2; unfold rowOK' at hq; omega) | (exact hI.2.1.2.2) | (exact hI.2.2.2.1) | (exact hI.2.2.2.2.1) | (rw [hI.2.2.2.2.2, hI.2.1.1]; exact fillC_s (by omega) rfl) | grind [upI])
theorem vX3_row_24 (s : MS) (a1 : Int) (a2 : Int) (a3 : Int) (c_2 : ¬ (bI (0 ≤ a1 ∧ a1 ≤ 3)) = 0) (c_4 : ¬ (bI ((0 : Int) ≤ a2 ∧ a2 ≤ (3 : Int))) = 0) (c_5 : ¬ a3 ≤ 60) : (s.2 1) = (rowD a1 a2 a3 (upI (s.2 1) a1 a3) (s.2 1)) := by
  (try simp only [bI_0, bI_n, Classical.not_not] at *)
  (try (have hq := hI.2.1.2.2; unfold rowOK' at hq))
  (try unfold lex3)
  (try simp only [bI_0, bI_n, Classical.not_not] at *)
  (try simp (disch := omega) only [i32_id] at *)
  first | done | omega | ((repeat' (with_reducible apply And.intro)) <;> first | assumption | rfl | omega | (exact hI.1) | (exact (rowD_n (fun q => absurd q.1 (by assumption))).symm) | (exact (rowD_n (fun q => absurd q.2.1 (by assumption))).symm) | (exact (rowD_n (fun q => absurd q.2.2.1 (by omega))).symm) | (exact (rowD_n (fun q => absurd q.2.2.2 (by omega))).symm) | (unfold rRow; rw [if_neg (by omega)]) | (unfold rRow; rw [if_pos (by omega), if_pos (by omega)]) | (have hq := hI.2.1.2.2; unfold rowOK' at hq; unfold rRow; rw [if_pos (by omega), if_neg (by omega)]) | (rw [rowD_y hI.2.1.2.2]; exact hI.2.2.2.1) | (rw [rowD_y hI.2.1.2.2]; exact hI.2.2.2.2.1) | (rw [rowD_y hI.2.1.2.2, hI.2.2.2.2.2, show a3 = x4 by omega]) | (unfold rowOK'; omega) | (exact fillC_0 _ _ _) | (have hq := hI.2.1.2.2; unfold rowOK' at hq; omega) | (exact hI.2.1.2.2) | (exact hI.2.2.2.1) | (exact hI.2.2.2.2.1) | (rw [hI.2.2.2.2.2, hI.2.1.1]; exact fillC_s (by omega) rfl) | grind [upI])
theorem vX3_row_25 (s : MS) (a1 : Int) (a2 : Int) (a3 : Int) (c_2 : ¬ (bI (0 ≤ a1 ∧ a1 ≤ 3)) = 0) (c_4 : ¬ (bI ((0 : Int) ≤ a2 ∧ a2 ≤ (3 : Int))) = 0) (c_5 : ¬ a3 ≤ 60) : (s.2 2) = (rowD a1 a2 a3 (fillC (s.2 2) (60 * a1) a3 0) (s.2 2)) := by
  (try simp only [bI_0, bI_n, Classical.not_not] at *)
  (try (have hq := hI.2.1.2.2; unfold rowOK' at hq))
  (try unfold lex3)
  (try simp only [bI_0, bI_n, Classical.not_not] at *)
  (try simp (disch := omega) only [i32_id] at *)
  first | done | omega | ((repeat' (with_reducible apply And.intro)) <;> first | assumption | rfl | omega | (exact hI.1) | (exact (rowD_n (fun q => absurd q.1 (by assumption))).symm) | (exact (rowD_n (fun q => absurd q.2.1 (by assumption))).symm) | (exact (rowD_n (fun q => absurd q.2.2.1 (by omega))).symm) | (exact (rowD_n (fun q => absurd q.2.2.2 (by omega))).symm) | (unfold rRow; rw [if_neg (by omega)]) | (unfold rRow; rw [if_pos (by omega), if_pos (by omega)]) | (have hq := hI.2.1.2.2; unfold rowOK' at hq; unfold rRow; rw [if_pos (by omega), if_neg (by omega)]) | (rw [rowD_y hI.2.1.2.2]; exact hI.2.2.2.1) | (rw [rowD_y hI.2.1.2.2]; exact hI.2.2.2.2.1) | (rw [rowD_y hI.2.1.2.2, hI.2.2.2.2.2, show a3 = x4 by omega]) | (unfold rowOK'; omega) | (exact fillC_0 _ _ _) | (have hq := hI.2.1.2.2; unfold rowOK' at hq; omega) | (exact hI.2.1.2.2) | (exact hI.2.2.2.1) | (exact hI.2.2.2.2.1) | (rw [hI.2.2.2.2.2, hI.2.1.1]; exact fillC_s (by omega) rfl) | grind [upI])
theorem vX3_row_26 (s : MS) (a1 : Int) (a2 : Int) (a3 : Int) (c_2 : ¬ (bI (0 ≤ a1 ∧ a1 ≤ 3)) = 0) (c_4 : ¬ (bI ((0 : Int) ≤ a2 ∧ a2 ≤ (3 : Int))) = 0) (c_5 : ¬ a3 ≤ 60) : (-2) = (rRow a1 a2 a3) := by
  (try simp only [bI_0, bI_n, Classical.not_not] at *)
  (try (have hq := hI.2.1.2.2; unfold rowOK' at hq))
  (try unfold lex3)
  (try simp only [bI_0, bI_n, Classical.not_not] at *)
  (try simp (disch := omega) only [i32_id] at *)
  first | done | omega | ((repeat' (with_reducible apply And.intro)) <;> first | assumption | rfl | omega | (exact hI.1) | (exact (rowD_n (fun q => absurd q.1 (by assumption))).symm) | (exact (rowD_n (fun q => absurd q.2.1 (by assumption))).symm) | (exact (rowD_n (fun q => absurd q.2.2.1 (by omega))).symm) | (exact (rowD_n (fun q => absurd q.2.2.2 (by omega))).symm) | (unfold rRow; rw [if_neg (by omega)]) | (unfold rRow; rw [if_pos (by omega), if_pos (by omega)]) | (have hq := hI.2.1.2.2; unfold rowOK' at hq; unfold rRow; rw [if_pos (by omega), if_neg (by omega)]) | (rw [rowD_y hI.2.1.2.2]; exact hI.2.2.2.1) | (rw [rowD_y hI.2.1.2.2]; exact hI.2.2.2.2.1) | (rw [rowD_y hI.2.1.2.2, hI.2.2.2.2.2, show a3 = x4 by omega]) | (unfold rowOK'; omega) | (exact fillC_0 _ _ _) | (have hq := hI.2.1.2.2; unfold rowOK' at hq; omega) | (exact hI.2.1.2.2) | (exact hI.2.2.2.1) | (exact hI.2.2.2.2.1) | (rw [hI.2.2.2.2.2, hI.2.1.1]; exact fillC_s (by omega) rfl) | grind [upI])
theorem allX3_row (b : AH) (s : MS) (a1 : Int) (a2 : Int) (a3 : Int) : ∀ m1 m2 m3 : Nat, (∀ (x1 : Int) (x3 : Int) (x4 : Int) (f0 : Int → Int) (f1 : Int → Int) (f2 : Int → Int) (k0 : Int), m1 = 0 → m2 = 0 → m3 = ((a3 - x4).toNat) → (k0 = 0 ∧ (x1 = a1 ∧ x3 = a3 ∧ rowOK' a1 a2 a3) ∧ (0 ≤ x4 ∧ x4 ≤ a3) ∧ f0 = upI (s.2 0) a1 a2 ∧ f1 = upI (s.2 1) a1 a3 ∧ f2 = fillC (s.2 2) (60 * a1) x4 0) → HX3_row_57 (QX3_row s a1 a2 a3) b s x1 x3 x4 f0 f1 f2 k0) := by
  refine lex3_ind ?_
  intro m1 m2 m3 ih
  rintro x1 x3 x4 f0 f1 f2 k0 rfl rfl rfl hI
  refine bX3_row_57 b s x1 x3 x4 f0 f1 f2 k0 ?_
  refine ⟨fun c_1 => ?_, fun c_1 => ?_⟩
  · exact ⟨(rI_c (vX3_row_5 s a1 a2 a3 x1 x3 x4 f0 f1 f2 k0 hI c_1)), (sS_c (sA_c (sA_c (sA_c rfl (vX3_row_1 s a1 a2 a3 x1 x3 x4 f0 f1 f2 k0 hI c_1)) (vX3_row_2 s a1 a2 a3 x1 x3 x4 f0 f1 f2 k0 hI c_1)) (vX3_row_3 s a1 a2 a3 x1 x3 x4 f0 f1 f2 k0 hI c_1)) (vX3_row_4 s a1 a2 a3 x1 x3 x4 f0 f1 f2 k0 hI c_1))⟩
  · have o_2 : (0 ≤ (i32 ((i32 (60 * x1)) + x4)) ∧ (i32 ((i32 (60 * x1)) + x4)) < 240) := (vX3_row_6 s a1 a2 a3 x1 x3 x4 f0 f1 f2 k0 hI c_1)
    refine ⟨o_2, ?_⟩
    exact (ih _ _ _ (vX3_row_8 s a1 a2 a3 x1 x3 x4 f0 f1 f2 k0 hI c_1 o_2)) x1 x3 (i32 (x4 + 1)) f0 f1 (upI f2 (i32 ((i32 (60 * x1)) + x4)) 0) k0 rfl rfl rfl (vX3_row_7 s a1 a2 a3 x1 x3 x4 f0 f1 f2 k0 hI c_1 o_2)
theorem ctX3_row (b : AH) (s : MS) (a1 : Int) (a2 : Int) (a3 : Int) : MC mX3_row 3 b s [vI a1, vI a2, vI a3] (QX3_row s a1 a2 a3) := by
  refine MC.of (by decide) rfl (Nat.le_of_ble_eq_true rfl) (JW.steq (s2 := sS (sA (sA (sA s 0 (s.2 0)) 1 (s.2 1)) 2 (s.2 2)) 0 (s.1 0)) (by simp only [sA_id, sS_id]) ?_)
  refine bX3_row_0 b s a1 a2 a3 (s.2 0) (s.2 1) (s.2 2) (s.1 0) ?_
  refine ⟨fun c_2 => ?_, fun c_2 => ?_⟩
  · exact ⟨(rI_c (vX3_row_12 s a1 a2 a3 c_2)), (sS_c (sA_c (sA_c (sA_c rfl (vX3_row_9 s a1 a2 a3 c_2)) (vX3_row_10 s a1 a2 a3 c_2)) (vX3_row_11 s a1 a2 a3 c_2)) rfl)⟩
  · refine ⟨fun c_4 => ?_, fun c_4 => ?_⟩
    · exact ⟨(rI_c (vX3_row_16 s a1 a2 a3 c_2 c_4)), (sS_c (sA_c (sA_c (sA_c rfl (vX3_row_13 s a1 a2 a3 c_2 c_4)) (vX3_row_14 s a1 a2 a3 c_2 c_4)) (vX3_row_15 s a1 a2 a3 c_2 c_4)) rfl)⟩
    · refine ⟨fun c_5 => ?_, fun c_5 => ?_⟩
      · refine ⟨fun c_6 => ?_, fun c_6 => ?_⟩
        · have o_7 : (0 ≤ a1 ∧ a1 < 4) := (vX3_row_17 s a1 a2 a3 c_2 c_4 c_5 c_6)
          refine ⟨o_7, ?_⟩
          exact (allX3_row b s a1 a2 a3 _ _ _) a1 a3 0 (upI (s.2 0) a1 a2) (upI (s.2 1) a1 a3) (s.2 2) 0 rfl rfl rfl (vX3_row_18 s a1 a2 a3 c_2 c_4 c_5 c_6 o_7)
        · exact ⟨(rI_c (vX3_row_22 s a1 a2 a3 c_2 c_4 c_5 c_6)), (sS_c (sA_c (sA_c (sA_c rfl (vX3_row_19 s a1 a2 a3 c_2 c_4 c_5 c_6)) (vX3_row_20 s a1 a2 a3 c_2 c_4 c_5 c_6)) (vX3_row_21 s a1 a2 a3 c_2 c_4 c_5 c_6)) rfl)⟩
      · exact ⟨(rI_c (vX3_row_26 s a1 a2 a3 c_2 c_4 c_5)), (sS_c (sA_c (sA_c (sA_c rfl (vX3_row_23 s a1 a2 a3 c_2 c_4 c_5)) (vX3_row_24 s a1 a2 a3 c_2 c_4 c_5)) (vX3_row_25 s a1 a2 a3 c_2 c_4 c_5)) rfl)⟩
def HX3_cut_0 (Q : Option AV → MS → Prop) (b : AH) (s : MS) (x0 : Int) (x2 : Int) : Prop := MW mX3_cut 1 Q b 0 [(0, vL x0), (2, vI x2)] [] s
theorem bX3_cut_0 {Q : Option AV → MS → Prop} (b : AH) (s : MS) (x0 : Int) (x2 : Int) (K : (¬ x2 = 0 → (¬ x2 = 1 → (¬ x2 = 2 → Q (some (vL x0)) s) ∧ (x2 = 2 → Q (some (vL (i32 x0))) s)) ∧ (x2 = 1 → Q (some (vL (js16 (i32 x0)))) s)) ∧ (x2 = 0 → Q (some (vL (jb8 (i32 x0)))) s)) : HX3_cut_0 Q b s x0 x2 := by
  refine JW.iload_n dX3_cut_0 rfl ?_
  refine JW.if_ne (tgt := 11) dX3_cut_1 rfl (fun c_1 => ?_) (fun c_1 => ?_)
  · have K := K.1 c_1
    refine JW.iload_n dX3_cut_11 rfl ?_
    refine JW.iconst dX3_cut_12 rfl ?_
    refine JW.icmp_ne (tgt := 23) dX3_cut_13 rfl (fun c_2 => ?_) (fun c_2 => ?_)
    · have K := K.1 c_2
      refine JW.iload_n dX3_cut_23 rfl ?_
      refine JW.iconst dX3_cut_24 rfl ?_
      refine JW.icmp_ne (tgt := 34) dX3_cut_25 rfl (fun c_3 => ?_) (fun c_3 => ?_)
      · have K := K.1 c_3
        refine JW.lload_n dX3_cut_34 rfl ?_
        exact JW.lreturn dX3_cut_35 rfl ⟨_, rfl, K⟩
      · have K := K.2 c_3
        refine JW.lload_n dX3_cut_28 rfl ?_
        refine JW.l2i dX3_cut_29 ?_
        refine JW.i2l dX3_cut_30 ?_
        refine JW.goto (tgt := 35) dX3_cut_31 rfl ?_
        exact JW.lreturn dX3_cut_35 rfl ⟨_, rfl, K⟩
    · have K := K.2 c_2
      refine JW.lload_n dX3_cut_16 rfl ?_
      refine JW.l2i dX3_cut_17 ?_
      refine JW.i2s dX3_cut_18 ?_
      refine JW.i2l dX3_cut_19 ?_
      refine JW.goto (tgt := 35) dX3_cut_20 rfl ?_
      exact JW.lreturn dX3_cut_35 rfl ⟨_, rfl, K⟩
  · have K := K.2 c_1
    refine JW.lload_n dX3_cut_4 rfl ?_
    refine JW.l2i dX3_cut_5 ?_
    refine JW.i2b dX3_cut_6 ?_
    refine JW.i2l dX3_cut_7 ?_
    refine JW.goto (tgt := 35) dX3_cut_8 rfl ?_
    exact JW.lreturn dX3_cut_35 rfl ⟨_, rfl, K⟩
def QX3_cut (s : MS) (a1 : Int) (a2 : Int) : Option AV → MS → Prop := fun v s' => v = some (vL (cutV a1 a2)) ∧ s' = s
theorem vX3_cut_1 (s : MS) (a1 : Int) (a2 : Int) (c_1 : ¬ a2 = 0) (c_2 : ¬ a2 = 1) (c_3 : ¬ a2 = 2) : a1 = (cutV a1 a2) := by
  unfold cutV
  first | rw [if_pos (by assumption)] | rw [if_neg (by assumption), if_pos (by assumption)] | rw [if_neg (by assumption), if_neg (by assumption), if_pos (by assumption)] | rw [if_neg (by assumption), if_neg (by assumption), if_neg (by assumption)]
theorem vX3_cut_2 (s : MS) (a1 : Int) (a2 : Int) (c_1 : ¬ a2 = 0) (c_2 : ¬ a2 = 1) (c_3 : a2 = 2) : (i32 a1) = (cutV a1 a2) := by
  unfold cutV
  first | rw [if_pos (by assumption)] | rw [if_neg (by assumption), if_pos (by assumption)] | rw [if_neg (by assumption), if_neg (by assumption), if_pos (by assumption)] | rw [if_neg (by assumption), if_neg (by assumption), if_neg (by assumption)]
theorem vX3_cut_3 (s : MS) (a1 : Int) (a2 : Int) (c_1 : ¬ a2 = 0) (c_2 : a2 = 1) : (js16 (i32 a1)) = (cutV a1 a2) := by
  unfold cutV
  first | rw [if_pos (by assumption)] | rw [if_neg (by assumption), if_pos (by assumption)] | rw [if_neg (by assumption), if_neg (by assumption), if_pos (by assumption)] | rw [if_neg (by assumption), if_neg (by assumption), if_neg (by assumption)]
theorem vX3_cut_4 (s : MS) (a1 : Int) (a2 : Int) (c_1 : a2 = 0) : (jb8 (i32 a1)) = (cutV a1 a2) := by
  unfold cutV
  first | rw [if_pos (by assumption)] | rw [if_neg (by assumption), if_pos (by assumption)] | rw [if_neg (by assumption), if_neg (by assumption), if_pos (by assumption)] | rw [if_neg (by assumption), if_neg (by assumption), if_neg (by assumption)]
theorem ctX3_cut (b : AH) (s : MS) (a1 : Int) (a2 : Int) : MCS mX3_cut 1 b s [vL a1, vI a2] (QX3_cut s a1 a2) := by
  refine MCS.of (by decide) rfl (Nat.le_of_ble_eq_true rfl) ?_
  refine bX3_cut_0 b s a1 a2 ?_
  refine ⟨fun c_1 => ?_, fun c_1 => ?_⟩
  · refine ⟨fun c_2 => ?_, fun c_2 => ?_⟩
    · refine ⟨fun c_3 => ?_, fun c_3 => ?_⟩
      · exact ⟨(rL_c (vX3_cut_1 s a1 a2 c_1 c_2 c_3)), rfl⟩
      · exact ⟨(rL_c (vX3_cut_2 s a1 a2 c_1 c_2 c_3)), rfl⟩
    · exact ⟨(rL_c (vX3_cut_3 s a1 a2 c_1 c_2)), rfl⟩
  · exact ⟨(rL_c (vX3_cut_4 s a1 a2 c_1)), rfl⟩
def HX3_write_0 (Q : Option AV → MS → Prop) (b : AH) (s : MS) (x1 : Int) (x2 : Int) (x3 : Int) (f2 : Int → Int) (k0 : Int) : Prop := MW mX3_write 3 Q b 0 [(0, vR 351), (1, vI x1), (2, vI x2), (3, vL x3)] [] (sS (sA s 2 f2) 0 k0)
theorem bX3_write_0 {Q : Option AV → MS → Prop} (b : AH) (s : MS) (x1 : Int) (x2 : Int) (x3 : Int) (f2 : Int → Int) (k0 : Int) (K : (¬ (bI (0 ≤ x1 ∧ x1 ≤ 3)) = 0 → (0 ≤ x1 ∧ x1 < 4) ∧ ((¬ (s.2 0 x1) = (-1) → (¬ (bI ((0 : Int) ≤ x2 ∧ x2 ≤ (i32 ((s.2 1 x1) - 1)))) = 0 → (0 ≤ (i32 ((i32 (60 * x1)) + x2)) ∧ (i32 ((i32 (60 * x1)) + x2)) < 240) ∧ (Q (some (vI 0)) (sS (sA s 2 (upI f2 (i32 ((i32 (60 * x1)) + x2)) (cutV x3 (s.2 0 x1)))) 0 0))) ∧ ((bI ((0 : Int) ≤ x2 ∧ x2 ≤ (i32 ((s.2 1 x1) - 1)))) = 0 → Q (some (vI (-7))) (sS (sA s 2 f2) 0 0))) ∧ ((s.2 0 x1) = (-1) → Q (some (vI (-6))) (sS (sA s 2 f2) 0 0)))) ∧ ((bI (0 ≤ x1 ∧ x1 ≤ 3)) = 0 → Q (some (vI (-2))) (sS (sA s 2 f2) 0 0))) : HX3_write_0 Q b s x1 x2 x3 f2 k0 := by
  refine JW.aload_n dX3_write_0 rfl ?_
  refine JW.iconst dX3_write_1 rfl ?_
  refine JW.mputI dX3_write_2 (pX3_77 _) rfl ?_
  refine JW.steq (s2 := sS (sA s 2 f2) 0 0) (by simp only [sA_A, sS_S, sA_S, sA_lt, sS_lt, Nat.reduceLT, id_eq] <;> rfl) ?_
  refine JW.iload_n dX3_write_5 rfl ?_
  refine JW.mcallS (As := [vI x1]) dX3_write_6 vX3_isSlot q1628 (ctX3_isSlot b (sS (sA s 2 f2) 0 0) x1) (Nat.le_of_ble_eq_true rfl) rfl (Nat.le_of_ble_eq_true rfl) ?_
  rintro _ _ ⟨rfl, eq_1⟩
  refine JW.steq (s2 := sS (sA s 2 f2) 0 0) eq_1 ?_
  refine JW.if_ne (tgt := 15) dX3_write_9 rfl (fun c_2 => ?_) (fun c_2 => ?_)
  · have K := K.1 c_2
    refine JW.aload_n dX3_write_15 rfl ?_
    refine JW.mget (v := vR 352) dX3_write_16 fX3_7 rfl ?_
    refine JW.iload_n dX3_write_19 rfl ?_
    obtain ⟨o_3, K⟩ := K
    refine JW.mald 0 (x := (s.2 0 x1)) dX3_write_20 (Nat.le_of_ble_eq_true rfl) rfl o_3.1 o_3.2 rfl ?_
    refine JW.iconst dX3_write_21 rfl ?_
    refine JW.icmp_ne (tgt := 28) dX3_write_22 rfl (fun c_4 => ?_) (fun c_4 => ?_)
    · have K := K.1 c_4
      refine JW.iload_n dX3_write_28 rfl ?_
      refine JW.i2l dX3_write_29 ?_
      refine JW.lconst (x := 0) dX3_write_30 rfl ?_
      refine JW.aload_n dX3_write_31 rfl ?_
      refine JW.mget (v := vR 353) dX3_write_32 fX3_13 rfl ?_
      refine JW.iload_n dX3_write_35 rfl ?_
      refine JW.mald 1 (x := (s.2 1 x1)) dX3_write_36 (Nat.le_of_ble_eq_true rfl) rfl o_3.1 o_3.2 rfl ?_
      refine JW.iconst dX3_write_37 rfl ?_
      refine JW.isub dX3_write_38 ?_
      refine JW.i2l dX3_write_39 ?_
      refine JW.mcallS (As := [vL x2, vL 0, vL (i32 ((s.2 1 x1) - 1))]) dX3_write_40 vX3_in q1632 (ctX3_in b (sS (sA s 2 f2) 0 0) x2 0 (i32 ((s.2 1 x1) - 1))) (Nat.le_of_ble_eq_true rfl) rfl (Nat.le_of_ble_eq_true rfl) ?_
      rintro _ _ ⟨rfl, eq_5⟩
      refine JW.steq (s2 := sS (sA s 2 f2) 0 0) eq_5 ?_
      refine JW.if_ne (tgt := 49) dX3_write_43 rfl (fun c_6 => ?_) (fun c_6 => ?_)
      · have K := K.1 c_6
        refine JW.aload_n dX3_write_49 rfl ?_
        refine JW.mget (v := vR 354) dX3_write_50 fX3_16 rfl ?_
        refine JW.bipush dX3_write_53 rfl ?_
        refine JW.iload_n dX3_write_55 rfl ?_
        refine JW.imul dX3_write_56 ?_
        refine JW.iload_n dX3_write_57 rfl ?_
        refine JW.iadd dX3_write_58 ?_
        refine JW.lload_n dX3_write_59 rfl ?_
        refine JW.aload_n dX3_write_60 rfl ?_
        refine JW.mget (v := vR 352) dX3_write_61 fX3_7 rfl ?_
        refine JW.iload_n dX3_write_64 rfl ?_
        refine JW.mald 0 (x := (s.2 0 x1)) dX3_write_65 (Nat.le_of_ble_eq_true rfl) rfl o_3.1 o_3.2 rfl ?_
        refine JW.mcallS (As := [vL x3, vI (s.2 0 x1)]) dX3_write_66 vX3_cut q1639 (ctX3_cut b (sS (sA s 2 f2) 0 0) x3 (s.2 0 x1)) (Nat.le_of_ble_eq_true rfl) rfl (Nat.le_of_ble_eq_true rfl) ?_
        rintro _ _ ⟨rfl, eq_7⟩
        refine JW.steq (s2 := sS (sA s 2 f2) 0 0) eq_7 ?_
        obtain ⟨o_8, K⟩ := K
        refine JW.mlst 2 (f := f2) dX3_write_69 (Nat.le_of_ble_eq_true rfl) rfl o_8.1 o_8.2 rfl ?_
        refine JW.steq (s2 := sS (sA s 2 (upI f2 (i32 ((i32 (60 * x1)) + x2)) (cutV x3 (s.2 0 x1)))) 0 0) (by simp only [sA_A, sS_S, sA_S, sA_lt, sS_lt, Nat.reduceLT, id_eq] <;> rfl) ?_
        refine JW.iconst dX3_write_70 rfl ?_
        exact JW.ireturn dX3_write_71 rfl rfl ⟨_, rfl, K⟩
      · have K := K.2 c_6
        refine JW.bipush dX3_write_46 rfl ?_
        exact JW.ireturn dX3_write_48 rfl rfl ⟨_, rfl, K⟩
    · have K := K.2 c_4
      refine JW.bipush dX3_write_25 rfl ?_
      exact JW.ireturn dX3_write_27 rfl rfl ⟨_, rfl, K⟩
  · have K := K.2 c_2
    refine JW.bipush dX3_write_12 rfl ?_
    exact JW.ireturn dX3_write_14 rfl rfl ⟨_, rfl, K⟩
def QX3_write (s : MS) (a1 : Int) (a2 : Int) (a3 : Int) : Option AV → MS → Prop := fun v s' => v = some (vI (rWrite (s.2 0) (s.2 1) a1 a2)) ∧ s' = sS (sA s 2 (wrC (s.2 0) (s.2 1) (s.2 2) a1 a2 a3)) 0 (0)
theorem vX3_write_1 (s : MS) (a1 : Int) (a2 : Int) (a3 : Int) (hp : rwOK (s.2 0) (s.2 1)) (c_2 : ¬ (bI (0 ≤ a1 ∧ a1 ≤ 3)) = 0) : (0 ≤ a1 ∧ a1 < 4) := by
  (try simp only [bI_0, bI_n, Classical.not_not] at *)
  (try have hr := hp a1 (by omega) (by omega))
  (try simp (disch := omega) only [i32_id] at *)
  (try unfold lex3)
  (try simp only [bI_0, bI_n, Classical.not_not] at *)
  (try simp (disch := omega) only [i32_id] at *)
  first | done | omega | ((repeat' (with_reducible apply And.intro)) <;> first | assumption | rfl | omega | (exact (wrC_n (fun q => absurd q.1 (by assumption))).symm) | (exact (wrC_n (fun q => absurd q.2.1 (not_not_intro (by assumption)))).symm) | (exact (wrC_n (fun q => absurd q.2.2 (by omega))).symm) | (unfold rWrite; rw [if_neg (by omega)]) | (unfold rWrite; rw [if_pos (by omega), if_pos (by omega)]) | (unfold rWrite; rw [if_pos (by omega), if_neg (by omega), if_neg (by omega)]) | (unfold rWrite; rw [if_pos (by omega), if_neg (by omega), if_pos (by omega)]) | (exact (wrC_y ⟨by omega, by assumption, by omega⟩).symm) | grind [upI])
theorem vX3_write_2 (s : MS) (a1 : Int) (a2 : Int) (a3 : Int) (hp : rwOK (s.2 0) (s.2 1)) (c_2 : ¬ (bI (0 ≤ a1 ∧ a1 ≤ 3)) = 0) (o_3 : (0 ≤ a1 ∧ a1 < 4)) (c_4 : ¬ (s.2 0 a1) = (-1)) (c_6 : ¬ (bI ((0 : Int) ≤ a2 ∧ a2 ≤ (i32 ((s.2 1 a1) - 1)))) = 0) : (0 ≤ (i32 ((i32 (60 * a1)) + a2)) ∧ (i32 ((i32 (60 * a1)) + a2)) < 240) := by
  (try simp only [bI_0, bI_n, Classical.not_not] at *)
  (try have hr := hp a1 (by omega) (by omega))
  (try simp (disch := omega) only [i32_id] at *)
  (try unfold lex3)
  (try simp only [bI_0, bI_n, Classical.not_not] at *)
  (try simp (disch := omega) only [i32_id] at *)
  first | done | omega | ((repeat' (with_reducible apply And.intro)) <;> first | assumption | rfl | omega | (exact (wrC_n (fun q => absurd q.1 (by assumption))).symm) | (exact (wrC_n (fun q => absurd q.2.1 (not_not_intro (by assumption)))).symm) | (exact (wrC_n (fun q => absurd q.2.2 (by omega))).symm) | (unfold rWrite; rw [if_neg (by omega)]) | (unfold rWrite; rw [if_pos (by omega), if_pos (by omega)]) | (unfold rWrite; rw [if_pos (by omega), if_neg (by omega), if_neg (by omega)]) | (unfold rWrite; rw [if_pos (by omega), if_neg (by omega), if_pos (by omega)]) | (exact (wrC_y ⟨by omega, by assumption, by omega⟩).symm) | grind [upI])
theorem vX3_write_3 (s : MS) (a1 : Int) (a2 : Int) (a3 : Int) (hp : rwOK (s.2 0) (s.2 1)) (c_2 : ¬ (bI (0 ≤ a1 ∧ a1 ≤ 3)) = 0) (o_3 : (0 ≤ a1 ∧ a1 < 4)) (c_4 : ¬ (s.2 0 a1) = (-1)) (c_6 : ¬ (bI ((0 : Int) ≤ a2 ∧ a2 ≤ (i32 ((s.2 1 a1) - 1)))) = 0) (o_8 : (0 ≤ (i32 ((i32 (60 * a1)) + a2)) ∧ (i32 ((i32 (60 * a1)) + a2)) < 240)) : (upI (s.2 2) (i32 ((i32 (60 * a1)) + a2)) (cutV a3 (s.2 0 a1))) = (wrC (s.2 0) (s.2 1) (s.2 2) a1 a2 a3) := by
  (try simp only [bI_0, bI_n, Classical.not_not] at *)
  (try have hr := hp a1 (by omega) (by omega))
  (try simp (disch := omega) only [i32_id] at *)
  (try unfold lex3)
  (try simp only [bI_0, bI_n, Classical.not_not] at *)
  (try simp (disch := omega) only [i32_id] at *)
  first | done | omega | ((repeat' (with_reducible apply And.intro)) <;> first | assumption | rfl | omega | (exact (wrC_n (fun q => absurd q.1 (by assumption))).symm) | (exact (wrC_n (fun q => absurd q.2.1 (not_not_intro (by assumption)))).symm) | (exact (wrC_n (fun q => absurd q.2.2 (by omega))).symm) | (unfold rWrite; rw [if_neg (by omega)]) | (unfold rWrite; rw [if_pos (by omega), if_pos (by omega)]) | (unfold rWrite; rw [if_pos (by omega), if_neg (by omega), if_neg (by omega)]) | (unfold rWrite; rw [if_pos (by omega), if_neg (by omega), if_pos (by omega)]) | (exact (wrC_y ⟨by omega, by assumption, by omega⟩).symm) | grind [upI])
theorem vX3_write_4 (s : MS) (a1 : Int) (a2 : Int) (a3 : Int) (hp : rwOK (s.2 0) (s.2 1)) (c_2 : ¬ (bI (0 ≤ a1 ∧ a1 ≤ 3)) = 0) (o_3 : (0 ≤ a1 ∧ a1 < 4)) (c_4 : ¬ (s.2 0 a1) = (-1)) (c_6 : ¬ (bI ((0 : Int) ≤ a2 ∧ a2 ≤ (i32 ((s.2 1 a1) - 1)))) = 0) (o_8 : (0 ≤ (i32 ((i32 (60 * a1)) + a2)) ∧ (i32 ((i32 (60 * a1)) + a2)) < 240)) : 0 = (rWrite (s.2 0) (s.2 1) a1 a2) := by
  (try simp only [bI_0, bI_n, Classical.not_not] at *)
  (try have hr := hp a1 (by omega) (by omega))
  (try simp (disch := omega) only [i32_id] at *)
  (try unfold lex3)
  (try simp only [bI_0, bI_n, Classical.not_not] at *)
  (try simp (disch := omega) only [i32_id] at *)
  first | done | omega | ((repeat' (with_reducible apply And.intro)) <;> first | assumption | rfl | omega | (exact (wrC_n (fun q => absurd q.1 (by assumption))).symm) | (exact (wrC_n (fun q => absurd q.2.1 (not_not_intro (by assumption)))).symm) | (exact (wrC_n (fun q => absurd q.2.2 (by omega))).symm) | (unfold rWrite; rw [if_neg (by omega)]) | (unfold rWrite; rw [if_pos (by omega), if_pos (by omega)]) | (unfold rWrite; rw [if_pos (by omega), if_neg (by omega), if_neg (by omega)]) | (unfold rWrite; rw [if_pos (by omega), if_neg (by omega), if_pos (by omega)]) | (exact (wrC_y ⟨by omega, by assumption, by omega⟩).symm) | grind [upI])
theorem vX3_write_5 (s : MS) (a1 : Int) (a2 : Int) (a3 : Int) (hp : rwOK (s.2 0) (s.2 1)) (c_2 : ¬ (bI (0 ≤ a1 ∧ a1 ≤ 3)) = 0) (o_3 : (0 ≤ a1 ∧ a1 < 4)) (c_4 : ¬ (s.2 0 a1) = (-1)) (c_6 : (bI ((0 : Int) ≤ a2 ∧ a2 ≤ (i32 ((s.2 1 a1) - 1)))) = 0) : (s.2 2) = (wrC (s.2 0) (s.2 1) (s.2 2) a1 a2 a3) := by
  (try simp only [bI_0, bI_n, Classical.not_not] at *)
  (try have hr := hp a1 (by omega) (by omega))
  (try simp (disch := omega) only [i32_id] at *)
  (try unfold lex3)
  (try simp only [bI_0, bI_n, Classical.not_not] at *)
  (try simp (disch := omega) only [i32_id] at *)
  first | done | omega | ((repeat' (with_reducible apply And.intro)) <;> first | assumption | rfl | omega | (exact (wrC_n (fun q => absurd q.1 (by assumption))).symm) | (exact (wrC_n (fun q => absurd q.2.1 (not_not_intro (by assumption)))).symm) | (exact (wrC_n (fun q => absurd q.2.2 (by omega))).symm) | (unfold rWrite; rw [if_neg (by omega)]) | (unfold rWrite; rw [if_pos (by omega), if_pos (by omega)]) | (unfold rWrite; rw [if_pos (by omega), if_neg (by omega), if_neg (by omega)]) | (unfold rWrite; rw [if_pos (by omega), if_neg (by omega), if_pos (by omega)]) | (exact (wrC_y ⟨by omega, by assumption, by omega⟩).symm) | grind [upI])
theorem vX3_write_6 (s : MS) (a1 : Int) (a2 : Int) (a3 : Int) (hp : rwOK (s.2 0) (s.2 1)) (c_2 : ¬ (bI (0 ≤ a1 ∧ a1 ≤ 3)) = 0) (o_3 : (0 ≤ a1 ∧ a1 < 4)) (c_4 : ¬ (s.2 0 a1) = (-1)) (c_6 : (bI ((0 : Int) ≤ a2 ∧ a2 ≤ (i32 ((s.2 1 a1) - 1)))) = 0) : (-7) = (rWrite (s.2 0) (s.2 1) a1 a2) := by
  (try simp only [bI_0, bI_n, Classical.not_not] at *)
  (try have hr := hp a1 (by omega) (by omega))
  (try simp (disch := omega) only [i32_id] at *)
  (try unfold lex3)
  (try simp only [bI_0, bI_n, Classical.not_not] at *)
  (try simp (disch := omega) only [i32_id] at *)
  first | done | omega | ((repeat' (with_reducible apply And.intro)) <;> first | assumption | rfl | omega | (exact (wrC_n (fun q => absurd q.1 (by assumption))).symm) | (exact (wrC_n (fun q => absurd q.2.1 (not_not_intro (by assumption)))).symm) | (exact (wrC_n (fun q => absurd q.2.2 (by omega))).symm) | (unfold rWrite; rw [if_neg (by omega)]) | (unfold rWrite; rw [if_pos (by omega), if_pos (by omega)]) | (unfold rWrite; rw [if_pos (by omega), if_neg (by omega), if_neg (by omega)]) | (unfold rWrite; rw [if_pos (by omega), if_neg (by omega), if_pos (by omega)]) | (exact (wrC_y ⟨by omega, by assumption, by omega⟩).symm) | grind [upI])
theorem vX3_write_7 (s : MS) (a1 : Int) (a2 : Int) (a3 : Int) (hp : rwOK (s.2 0) (s.2 1)) (c_2 : ¬ (bI (0 ≤ a1 ∧ a1 ≤ 3)) = 0) (o_3 : (0 ≤ a1 ∧ a1 < 4)) (c_4 : (s.2 0 a1) = (-1)) : (s.2 2) = (wrC (s.2 0) (s.2 1) (s.2 2) a1 a2 a3) := by
  (try simp only [bI_0, bI_n, Classical.not_not] at *)
  (try have hr := hp a1 (by omega) (by omega))
  (try simp (disch := omega) only [i32_id] at *)
  (try unfold lex3)
  (try simp only [bI_0, bI_n, Classical.not_not] at *)
  (try simp (disch := omega) only [i32_id] at *)
  first | done | omega | ((repeat' (with_reducible apply And.intro)) <;> first | assumption | rfl | omega | (exact (wrC_n (fun q => absurd q.1 (by assumption))).symm) | (exact (wrC_n (fun q => absurd q.2.1 (not_not_intro (by assumption)))).symm) | (exact (wrC_n (fun q => absurd q.2.2 (by omega))).symm) | (unfold rWrite; rw [if_neg (by omega)]) | (unfold rWrite; rw [if_pos (by omega), if_pos (by omega)]) | (unfold rWrite; rw [if_pos (by omega), if_neg (by omega), if_neg (by omega)]) | (unfold rWrite; rw [if_pos (by omega), if_neg (by omega), if_pos (by omega)]) | (exact (wrC_y ⟨by omega, by assumption, by omega⟩).symm) | grind [upI])
theorem vX3_write_8 (s : MS) (a1 : Int) (a2 : Int) (a3 : Int) (hp : rwOK (s.2 0) (s.2 1)) (c_2 : ¬ (bI (0 ≤ a1 ∧ a1 ≤ 3)) = 0) (o_3 : (0 ≤ a1 ∧ a1 < 4)) (c_4 : (s.2 0 a1) = (-1)) : (-6) = (rWrite (s.2 0) (s.2 1) a1 a2) := by
  (try simp only [bI_0, bI_n, Classical.not_not] at *)
  (try have hr := hp a1 (by omega) (by omega))
  (try simp (disch := omega) only [i32_id] at *)
  (try unfold lex3)
  (try simp only [bI_0, bI_n, Classical.not_not] at *)
  (try simp (disch := omega) only [i32_id] at *)
  first | done | omega | ((repeat' (with_reducible apply And.intro)) <;> first | assumption | rfl | omega | (exact (wrC_n (fun q => absurd q.1 (by assumption))).symm) | (exact (wrC_n (fun q => absurd q.2.1 (not_not_intro (by assumption)))).symm) | (exact (wrC_n (fun q => absurd q.2.2 (by omega))).symm) | (unfold rWrite; rw [if_neg (by omega)]) | (unfold rWrite; rw [if_pos (by omega), if_pos (by omega)]) | (unfold rWrite; rw [if_pos (by omega), if_neg (by omega), if_neg (by omega)]) | (unfold rWrite; rw [if_pos (by omega), if_neg (by omega), if_pos (by omega)]) | (exact (wrC_y ⟨by omega, by assumption, by omega⟩).symm) | grind [upI])
theorem vX3_write_9 (s : MS) (a1 : Int) (a2 : Int) (a3 : Int) (hp : rwOK (s.2 0) (s.2 1)) (c_2 : (bI (0 ≤ a1 ∧ a1 ≤ 3)) = 0) : (s.2 2) = (wrC (s.2 0) (s.2 1) (s.2 2) a1 a2 a3) := by
  (try simp only [bI_0, bI_n, Classical.not_not] at *)
  (try have hr := hp a1 (by omega) (by omega))
  (try simp (disch := omega) only [i32_id] at *)
  (try unfold lex3)
  (try simp only [bI_0, bI_n, Classical.not_not] at *)
  (try simp (disch := omega) only [i32_id] at *)
  first | done | omega | ((repeat' (with_reducible apply And.intro)) <;> first | assumption | rfl | omega | (exact (wrC_n (fun q => absurd q.1 (by assumption))).symm) | (exact (wrC_n (fun q => absurd q.2.1 (not_not_intro (by assumption)))).symm) | (exact (wrC_n (fun q => absurd q.2.2 (by omega))).symm) | (unfold rWrite; rw [if_neg (by omega)]) | (unfold rWrite; rw [if_pos (by omega), if_pos (by omega)]) | (unfold rWrite; rw [if_pos (by omega), if_neg (by omega), if_neg (by omega)]) | (unfold rWrite; rw [if_pos (by omega), if_neg (by omega), if_pos (by omega)]) | (exact (wrC_y ⟨by omega, by assumption, by omega⟩).symm) | grind [upI])
theorem vX3_write_10 (s : MS) (a1 : Int) (a2 : Int) (a3 : Int) (hp : rwOK (s.2 0) (s.2 1)) (c_2 : (bI (0 ≤ a1 ∧ a1 ≤ 3)) = 0) : (-2) = (rWrite (s.2 0) (s.2 1) a1 a2) := by
  (try simp only [bI_0, bI_n, Classical.not_not] at *)
  (try have hr := hp a1 (by omega) (by omega))
  (try simp (disch := omega) only [i32_id] at *)
  (try unfold lex3)
  (try simp only [bI_0, bI_n, Classical.not_not] at *)
  (try simp (disch := omega) only [i32_id] at *)
  first | done | omega | ((repeat' (with_reducible apply And.intro)) <;> first | assumption | rfl | omega | (exact (wrC_n (fun q => absurd q.1 (by assumption))).symm) | (exact (wrC_n (fun q => absurd q.2.1 (not_not_intro (by assumption)))).symm) | (exact (wrC_n (fun q => absurd q.2.2 (by omega))).symm) | (unfold rWrite; rw [if_neg (by omega)]) | (unfold rWrite; rw [if_pos (by omega), if_pos (by omega)]) | (unfold rWrite; rw [if_pos (by omega), if_neg (by omega), if_neg (by omega)]) | (unfold rWrite; rw [if_pos (by omega), if_neg (by omega), if_pos (by omega)]) | (exact (wrC_y ⟨by omega, by assumption, by omega⟩).symm) | grind [upI])
theorem ctX3_write (b : AH) (s : MS) (a1 : Int) (a2 : Int) (a3 : Int) (hp : rwOK (s.2 0) (s.2 1)) : MC mX3_write 3 b s [vI a1, vI a2, vL a3] (QX3_write s a1 a2 a3) := by
  refine MC.of (by decide) rfl (Nat.le_of_ble_eq_true rfl) (JW.steq (s2 := sS (sA s 2 (s.2 2)) 0 (s.1 0)) (by simp only [sA_id, sS_id]) ?_)
  refine bX3_write_0 b s a1 a2 a3 (s.2 2) (s.1 0) ?_
  refine ⟨fun c_2 => ?_, fun c_2 => ?_⟩
  · have o_3 : (0 ≤ a1 ∧ a1 < 4) := (vX3_write_1 s a1 a2 a3 hp c_2)
    refine ⟨o_3, ?_⟩
    refine ⟨fun c_4 => ?_, fun c_4 => ?_⟩
    · refine ⟨fun c_6 => ?_, fun c_6 => ?_⟩
      · have o_8 : (0 ≤ (i32 ((i32 (60 * a1)) + a2)) ∧ (i32 ((i32 (60 * a1)) + a2)) < 240) := (vX3_write_2 s a1 a2 a3 hp c_2 o_3 c_4 c_6)
        refine ⟨o_8, ?_⟩
        exact ⟨(rI_c (vX3_write_4 s a1 a2 a3 hp c_2 o_3 c_4 c_6 o_8)), (sS_c (sA_c rfl (vX3_write_3 s a1 a2 a3 hp c_2 o_3 c_4 c_6 o_8)) rfl)⟩
      · exact ⟨(rI_c (vX3_write_6 s a1 a2 a3 hp c_2 o_3 c_4 c_6)), (sS_c (sA_c rfl (vX3_write_5 s a1 a2 a3 hp c_2 o_3 c_4 c_6)) rfl)⟩
    · exact ⟨(rI_c (vX3_write_8 s a1 a2 a3 hp c_2 o_3 c_4)), (sS_c (sA_c rfl (vX3_write_7 s a1 a2 a3 hp c_2 o_3 c_4)) rfl)⟩
  · exact ⟨(rI_c (vX3_write_10 s a1 a2 a3 hp c_2)), (sS_c (sA_c rfl (vX3_write_9 s a1 a2 a3 hp c_2)) rfl)⟩
def HX3_paste_0 (Q : Option AV → MS → Prop) (b : AH) (s : MS) (x1 : Int) (x2 : Int) (x3 : Int) (x4 : Int) (x5 : Int) (f2 : Int → Int) (f3 : Int → Int) (k0 : Int) : Prop := MW mX3_paste 3 Q b 0 [(0, vR 351), (1, vI x1), (2, vI x2), (3, vI x3), (4, vI x4), (5, vI x5)] [] (sS (sA (sA s 2 f2) 3 f3) 0 k0)
def HX3_paste_118 (Q : Option AV → MS → Prop) (b : AH) (s : MS) (x1 : Int) (x2 : Int) (x3 : Int) (x4 : Int) (x5 : Int) (x6 : Int) (f2 : Int → Int) (f3 : Int → Int) (k0 : Int) : Prop := MW mX3_paste 3 Q b 118 [(0, vR 351), (1, vI x1), (2, vI x2), (3, vI x3), (4, vI x4), (5, vI x5), (6, vI x6)] [] (sS (sA (sA s 2 f2) 3 f3) 0 k0)
def HX3_paste_155 (Q : Option AV → MS → Prop) (b : AH) (s : MS) (x3 : Int) (x4 : Int) (x5 : Int) (x6 : Int) (f2 : Int → Int) (f3 : Int → Int) (k0 : Int) : Prop := MW mX3_paste 3 Q b 155 [(0, vR 351), (3, vI x3), (4, vI x4), (5, vI x5), (6, vI x6)] [] (sS (sA (sA s 2 f2) 3 f3) 0 k0)
theorem bX3_paste_0 {Q : Option AV → MS → Prop} (b : AH) (s : MS) (x1 : Int) (x2 : Int) (x3 : Int) (x4 : Int) (x5 : Int) (f2 : Int → Int) (f3 : Int → Int) (k0 : Int) (K : ((bI (0 ≤ x1 ∧ x1 ≤ 3)) = 0 → Q (some (vI (-2))) (sS (sA (sA s 2 f2) 3 f3) 0 0)) ∧ (¬ (bI (0 ≤ x1 ∧ x1 ≤ 3)) = 0 → (¬ (bI (0 ≤ x3 ∧ x3 ≤ 3)) = 0 → (0 ≤ x1 ∧ x1 < 4) ∧ (((s.2 0 x1) = (-1) → Q (some (vI (-6))) (sS (sA (sA s 2 f2) 3 f3) 0 0)) ∧ (¬ (s.2 0 x1) = (-1) → (0 ≤ x3 ∧ x3 < 4) ∧ ((¬ (s.2 0 x3) = (-1) → ((s.2 0 x1) = (s.2 0 x3) → (x2 < 0 → Q (some (vI (-7))) (sS (sA (sA s 2 f2) 3 f3) 0 0)) ∧ (¬ x2 < 0 → (x4 < 0 → Q (some (vI (-7))) (sS (sA (sA s 2 f2) 3 f3) 0 0)) ∧ (¬ x4 < 0 → (x5 < 0 → Q (some (vI (-7))) (sS (sA (sA s 2 f2) 3 f3) 0 0)) ∧ (¬ x5 < 0 → (0 < (jcmp (i64 (x2 + x5)) (s.2 1 x1)) → Q (some (vI (-7))) (sS (sA (sA s 2 f2) 3 f3) 0 0)) ∧ (¬ 0 < (jcmp (i64 (x2 + x5)) (s.2 1 x1)) → ((jcmp (i64 (x4 + x5)) (s.2 1 x3)) ≤ 0 → HX3_paste_118 Q b s x1 x2 x3 x4 x5 0 f2 f3 0) ∧ (¬ (jcmp (i64 (x4 + x5)) (s.2 1 x3)) ≤ 0 → Q (some (vI (-7))) (sS (sA (sA s 2 f2) 3 f3) 0 0))))))) ∧ (¬ (s.2 0 x1) = (s.2 0 x3) → Q (some (vI (-8))) (sS (sA (sA s 2 f2) 3 f3) 0 0))) ∧ ((s.2 0 x3) = (-1) → Q (some (vI (-6))) (sS (sA (sA s 2 f2) 3 f3) 0 0)))))) ∧ ((bI (0 ≤ x3 ∧ x3 ≤ 3)) = 0 → Q (some (vI (-2))) (sS (sA (sA s 2 f2) 3 f3) 0 0)))) : HX3_paste_0 Q b s x1 x2 x3 x4 x5 f2 f3 k0 := by
  refine JW.aload_n dX3_paste_0 rfl ?_
  refine JW.iconst dX3_paste_1 rfl ?_
  refine JW.mputI dX3_paste_2 (pX3_77 _) rfl ?_
  refine JW.steq (s2 := sS (sA (sA s 2 f2) 3 f3) 0 0) (by simp only [sA_A, sS_S, sA_S, sA_lt, sS_lt, Nat.reduceLT, id_eq] <;> rfl) ?_
  refine JW.iload_n dX3_paste_5 rfl ?_
  refine JW.mcallS (As := [vI x1]) dX3_paste_6 vX3_isSlot q1628 (ctX3_isSlot b (sS (sA (sA s 2 f2) 3 f3) 0 0) x1) (Nat.le_of_ble_eq_true rfl) rfl (Nat.le_of_ble_eq_true rfl) ?_
  rintro _ _ ⟨rfl, eq_1⟩
  refine JW.steq (s2 := sS (sA (sA s 2 f2) 3 f3) 0 0) eq_1 ?_
  refine JW.if_eq (tgt := 19) dX3_paste_9 rfl (fun c_2 => ?_) (fun c_2 => ?_)
  · have K := K.1 c_2
    refine JW.bipush dX3_paste_19 rfl ?_
    exact JW.ireturn dX3_paste_21 rfl rfl ⟨_, rfl, K⟩
  · have K := K.2 c_2
    refine JW.iload_n dX3_paste_12 rfl ?_
    refine JW.mcallS (As := [vI x3]) dX3_paste_13 vX3_isSlot q1628 (ctX3_isSlot b (sS (sA (sA s 2 f2) 3 f3) 0 0) x3) (Nat.le_of_ble_eq_true rfl) rfl (Nat.le_of_ble_eq_true rfl) ?_
    rintro _ _ ⟨rfl, eq_3⟩
    refine JW.steq (s2 := sS (sA (sA s 2 f2) 3 f3) 0 0) eq_3 ?_
    refine JW.if_ne (tgt := 22) dX3_paste_16 rfl (fun c_4 => ?_) (fun c_4 => ?_)
    · have K := K.1 c_4
      refine JW.aload_n dX3_paste_22 rfl ?_
      refine JW.mget (v := vR 352) dX3_paste_23 fX3_7 rfl ?_
      refine JW.iload_n dX3_paste_26 rfl ?_
      obtain ⟨o_5, K⟩ := K
      refine JW.mald 0 (x := (s.2 0 x1)) dX3_paste_27 (Nat.le_of_ble_eq_true rfl) rfl o_5.1 o_5.2 rfl ?_
      refine JW.iconst dX3_paste_28 rfl ?_
      refine JW.icmp_eq (tgt := 42) dX3_paste_29 rfl (fun c_6 => ?_) (fun c_6 => ?_)
      · have K := K.1 c_6
        refine JW.bipush dX3_paste_42 rfl ?_
        exact JW.ireturn dX3_paste_44 rfl rfl ⟨_, rfl, K⟩
      · have K := K.2 c_6
        refine JW.aload_n dX3_paste_32 rfl ?_
        refine JW.mget (v := vR 352) dX3_paste_33 fX3_7 rfl ?_
        refine JW.iload_n dX3_paste_36 rfl ?_
        obtain ⟨o_7, K⟩ := K
        refine JW.mald 0 (x := (s.2 0 x3)) dX3_paste_37 (Nat.le_of_ble_eq_true rfl) rfl o_7.1 o_7.2 rfl ?_
        refine JW.iconst dX3_paste_38 rfl ?_
        refine JW.icmp_ne (tgt := 45) dX3_paste_39 rfl (fun c_8 => ?_) (fun c_8 => ?_)
        · have K := K.1 c_8
          refine JW.aload_n dX3_paste_45 rfl ?_
          refine JW.mget (v := vR 352) dX3_paste_46 fX3_7 rfl ?_
          refine JW.iload_n dX3_paste_49 rfl ?_
          refine JW.mald 0 (x := (s.2 0 x1)) dX3_paste_50 (Nat.le_of_ble_eq_true rfl) rfl o_5.1 o_5.2 rfl ?_
          refine JW.aload_n dX3_paste_51 rfl ?_
          refine JW.mget (v := vR 352) dX3_paste_52 fX3_7 rfl ?_
          refine JW.iload_n dX3_paste_55 rfl ?_
          refine JW.mald 0 (x := (s.2 0 x3)) dX3_paste_56 (Nat.le_of_ble_eq_true rfl) rfl o_7.1 o_7.2 rfl ?_
          refine JW.icmp_eq (tgt := 63) dX3_paste_57 rfl (fun c_9 => ?_) (fun c_9 => ?_)
          · have K := K.1 c_9
            refine JW.iload_n dX3_paste_63 rfl ?_
            refine JW.if_lt (tgt := 112) dX3_paste_64 rfl (fun c_10 => ?_) (fun c_10 => ?_)
            · have K := K.1 c_10
              refine JW.bipush dX3_paste_112 rfl ?_
              exact JW.ireturn dX3_paste_114 rfl rfl ⟨_, rfl, K⟩
            · have K := K.2 c_10
              refine JW.iload dX3_paste_67 rfl ?_
              refine JW.if_lt (tgt := 112) dX3_paste_69 rfl (fun c_11 => ?_) (fun c_11 => ?_)
              · have K := K.1 c_11
                refine JW.bipush dX3_paste_112 rfl ?_
                exact JW.ireturn dX3_paste_114 rfl rfl ⟨_, rfl, K⟩
              · have K := K.2 c_11
                refine JW.iload dX3_paste_72 rfl ?_
                refine JW.if_lt (tgt := 112) dX3_paste_74 rfl (fun c_12 => ?_) (fun c_12 => ?_)
                · have K := K.1 c_12
                  refine JW.bipush dX3_paste_112 rfl ?_
                  exact JW.ireturn dX3_paste_114 rfl rfl ⟨_, rfl, K⟩
                · have K := K.2 c_12
                  refine JW.iload_n dX3_paste_77 rfl ?_
                  refine JW.i2l dX3_paste_78 ?_
                  refine JW.iload dX3_paste_79 rfl ?_
                  refine JW.i2l dX3_paste_81 ?_
                  refine JW.ladd dX3_paste_82 ?_
                  refine JW.aload_n dX3_paste_83 rfl ?_
                  refine JW.mget (v := vR 353) dX3_paste_84 fX3_13 rfl ?_
                  refine JW.iload_n dX3_paste_87 rfl ?_
                  refine JW.mald 1 (x := (s.2 1 x1)) dX3_paste_88 (Nat.le_of_ble_eq_true rfl) rfl o_5.1 o_5.2 rfl ?_
                  refine JW.i2l dX3_paste_89 ?_
                  refine JW.lcmp dX3_paste_90 ?_
                  refine JW.if_gt (tgt := 112) dX3_paste_91 rfl (fun c_13 => ?_) (fun c_13 => ?_)
                  · have K := K.1 c_13
                    refine JW.bipush dX3_paste_112 rfl ?_
                    exact JW.ireturn dX3_paste_114 rfl rfl ⟨_, rfl, K⟩
                  · have K := K.2 c_13
                    refine JW.iload dX3_paste_94 rfl ?_
                    refine JW.i2l dX3_paste_96 ?_
                    refine JW.iload dX3_paste_97 rfl ?_
                    refine JW.i2l dX3_paste_99 ?_
                    refine JW.ladd dX3_paste_100 ?_
                    refine JW.aload_n dX3_paste_101 rfl ?_
                    refine JW.mget (v := vR 353) dX3_paste_102 fX3_13 rfl ?_
                    refine JW.iload_n dX3_paste_105 rfl ?_
                    refine JW.mald 1 (x := (s.2 1 x3)) dX3_paste_106 (Nat.le_of_ble_eq_true rfl) rfl o_7.1 o_7.2 rfl ?_
                    refine JW.i2l dX3_paste_107 ?_
                    refine JW.lcmp dX3_paste_108 ?_
                    refine JW.if_le (tgt := 115) dX3_paste_109 rfl (fun c_14 => ?_) (fun c_14 => ?_)
                    · have K := K.1 c_14
                      refine JW.iconst dX3_paste_115 rfl ?_
                      refine JW.istore (ls' := [(0, vR 351), (1, vI x1), (2, vI x2), (3, vI x3), (4, vI x4), (5, vI x5), (6, vI 0)]) dX3_paste_116 (Nat.le_of_ble_eq_true rfl) rfl ?_
                      exact JW.pick [0, 1, 2, 3, 4, 5, 6] rfl K
                    · have K := K.2 c_14
                      refine JW.bipush dX3_paste_112 rfl ?_
                      exact JW.ireturn dX3_paste_114 rfl rfl ⟨_, rfl, K⟩
          · have K := K.2 c_9
            refine JW.bipush dX3_paste_60 rfl ?_
            exact JW.ireturn dX3_paste_62 rfl rfl ⟨_, rfl, K⟩
        · have K := K.2 c_8
          refine JW.bipush dX3_paste_42 rfl ?_
          exact JW.ireturn dX3_paste_44 rfl rfl ⟨_, rfl, K⟩
    · have K := K.2 c_4
      refine JW.bipush dX3_paste_19 rfl ?_
      exact JW.ireturn dX3_paste_21 rfl rfl ⟨_, rfl, K⟩
theorem bX3_paste_118 {Q : Option AV → MS → Prop} (b : AH) (s : MS) (x1 : Int) (x2 : Int) (x3 : Int) (x4 : Int) (x5 : Int) (x6 : Int) (f2 : Int → Int) (f3 : Int → Int) (k0 : Int) (K : (x5 ≤ x6 → HX3_paste_155 Q b s x3 x4 x5 0 f2 f3 k0) ∧ (¬ x5 ≤ x6 → (0 ≤ (i32 ((i32 ((i32 (60 * x1)) + x2)) + x6)) ∧ (i32 ((i32 ((i32 (60 * x1)) + x2)) + x6)) < 240) ∧ ((0 ≤ x6 ∧ x6 < 60) ∧ (HX3_paste_118 Q b s x1 x2 x3 x4 x5 (i32 (x6 + 1)) f2 (upI f3 x6 (f2 (i32 ((i32 ((i32 (60 * x1)) + x2)) + x6)))) k0)))) : HX3_paste_118 Q b s x1 x2 x3 x4 x5 x6 f2 f3 k0 := by
  refine JW.iload dX3_paste_118 rfl ?_
  refine JW.iload dX3_paste_120 rfl ?_
  refine JW.icmp_ge (tgt := 152) dX3_paste_122 rfl (fun c_1 => ?_) (fun c_1 => ?_)
  · have K := K.1 c_1
    refine JW.iconst dX3_paste_152 rfl ?_
    refine JW.istore (ls' := [(0, vR 351), (1, vI x1), (2, vI x2), (3, vI x3), (4, vI x4), (5, vI x5), (6, vI 0)]) dX3_paste_153 (Nat.le_of_ble_eq_true rfl) rfl ?_
    exact JW.pick [0, 3, 4, 5, 6] rfl K
  · have K := K.2 c_1
    refine JW.aload_n dX3_paste_125 rfl ?_
    refine JW.mget (v := vR 355) dX3_paste_126 fX3_20 rfl ?_
    refine JW.iload dX3_paste_129 rfl ?_
    refine JW.aload_n dX3_paste_131 rfl ?_
    refine JW.mget (v := vR 354) dX3_paste_132 fX3_16 rfl ?_
    refine JW.bipush dX3_paste_135 rfl ?_
    refine JW.iload_n dX3_paste_137 rfl ?_
    refine JW.imul dX3_paste_138 ?_
    refine JW.iload_n dX3_paste_139 rfl ?_
    refine JW.iadd dX3_paste_140 ?_
    refine JW.iload dX3_paste_141 rfl ?_
    refine JW.iadd dX3_paste_143 ?_
    obtain ⟨o_2, K⟩ := K
    refine JW.mlld 2 (x := (f2 (i32 ((i32 ((i32 (60 * x1)) + x2)) + x6)))) dX3_paste_144 (Nat.le_of_ble_eq_true rfl) rfl o_2.1 o_2.2 rfl ?_
    obtain ⟨o_3, K⟩ := K
    refine JW.mlst 3 (f := f3) dX3_paste_145 (Nat.le_of_ble_eq_true rfl) rfl o_3.1 o_3.2 rfl ?_
    refine JW.steq (s2 := sS (sA (sA s 2 f2) 3 (upI f3 x6 (f2 (i32 ((i32 ((i32 (60 * x1)) + x2)) + x6))))) 0 k0) (by simp only [sA_A, sS_S, sA_S, sA_lt, sS_lt, Nat.reduceLT, id_eq] <;> rfl) ?_
    refine JW.iinc (ls' := [(0, vR 351), (1, vI x1), (2, vI x2), (3, vI x3), (4, vI x4), (5, vI x5), (6, vI (i32 (x6 + 1)))]) dX3_paste_146 (Nat.le_of_ble_eq_true rfl) rfl rfl ?_
    refine JW.goto (tgt := 118) dX3_paste_149 rfl ?_
    exact JW.pick [0, 1, 2, 3, 4, 5, 6] rfl K
theorem bX3_paste_155 {Q : Option AV → MS → Prop} (b : AH) (s : MS) (x3 : Int) (x4 : Int) (x5 : Int) (x6 : Int) (f2 : Int → Int) (f3 : Int → Int) (k0 : Int) (K : (x5 ≤ x6 → Q (some (vI 0)) (sS (sA (sA s 2 f2) 3 f3) 0 k0)) ∧ (¬ x5 ≤ x6 → (0 ≤ x6 ∧ x6 < 60) ∧ ((0 ≤ (i32 ((i32 ((i32 (60 * x3)) + x4)) + x6)) ∧ (i32 ((i32 ((i32 (60 * x3)) + x4)) + x6)) < 240) ∧ (HX3_paste_155 Q b s x3 x4 x5 (i32 (x6 + 1)) (upI f2 (i32 ((i32 ((i32 (60 * x3)) + x4)) + x6)) (f3 x6)) f3 k0)))) : HX3_paste_155 Q b s x3 x4 x5 x6 f2 f3 k0 := by
  refine JW.iload dX3_paste_155 rfl ?_
  refine JW.iload dX3_paste_157 rfl ?_
  refine JW.icmp_ge (tgt := 190) dX3_paste_159 rfl (fun c_1 => ?_) (fun c_1 => ?_)
  · have K := K.1 c_1
    refine JW.iconst dX3_paste_190 rfl ?_
    exact JW.ireturn dX3_paste_191 rfl rfl ⟨_, rfl, K⟩
  · have K := K.2 c_1
    refine JW.aload_n dX3_paste_162 rfl ?_
    refine JW.mget (v := vR 354) dX3_paste_163 fX3_16 rfl ?_
    refine JW.bipush dX3_paste_166 rfl ?_
    refine JW.iload_n dX3_paste_168 rfl ?_
    refine JW.imul dX3_paste_169 ?_
    refine JW.iload dX3_paste_170 rfl ?_
    refine JW.iadd dX3_paste_172 ?_
    refine JW.iload dX3_paste_173 rfl ?_
    refine JW.iadd dX3_paste_175 ?_
    refine JW.aload_n dX3_paste_176 rfl ?_
    refine JW.mget (v := vR 355) dX3_paste_177 fX3_20 rfl ?_
    refine JW.iload dX3_paste_180 rfl ?_
    obtain ⟨o_2, K⟩ := K
    refine JW.mlld 3 (x := (f3 x6)) dX3_paste_182 (Nat.le_of_ble_eq_true rfl) rfl o_2.1 o_2.2 rfl ?_
    obtain ⟨o_3, K⟩ := K
    refine JW.mlst 2 (f := f2) dX3_paste_183 (Nat.le_of_ble_eq_true rfl) rfl o_3.1 o_3.2 rfl ?_
    refine JW.steq (s2 := sS (sA (sA s 2 (upI f2 (i32 ((i32 ((i32 (60 * x3)) + x4)) + x6)) (f3 x6))) 3 f3) 0 k0) (by simp only [sA_A, sS_S, sA_S, sA_lt, sS_lt, Nat.reduceLT, id_eq] <;> rfl) ?_
    refine JW.iinc (ls' := [(0, vR 351), (3, vI x3), (4, vI x4), (5, vI x5), (6, vI (i32 (x6 + 1)))]) dX3_paste_184 (Nat.le_of_ble_eq_true rfl) rfl rfl ?_
    refine JW.goto (tgt := 155) dX3_paste_187 rfl ?_
    exact JW.pick [0, 3, 4, 5, 6] rfl K
def QX3_paste (s : MS) (a1 : Int) (a2 : Int) (a3 : Int) (a4 : Int) (a5 : Int) : Option AV → MS → Prop := fun v s' => ∃ (f3 : Int → Int), v = some (vI (rPaste (s.2 0) (s.2 1) a1 a2 a3 a4 a5)) ∧ s' = sS (sA (sA s 2 (psC (s.2 0) (s.2 1) (s.2 2) a1 a2 a3 a4 a5)) 3 f3) 0 (0)
theorem vX3_paste_1 (s : MS) (a1 : Int) (a2 : Int) (a3 : Int) (a4 : Int) (a5 : Int) (hp : rwOK (s.2 0) (s.2 1) ∧ (-2147483648 ≤ a2 ∧ a2 < 2147483648) ∧ (-2147483648 ≤ a4 ∧ a4 < 2147483648) ∧ (-2147483648 ≤ a5 ∧ a5 < 2147483648)) (x1 : Int) (x2 : Int) (x3 : Int) (x4 : Int) (x5 : Int) (x6 : Int) (f2 : Int → Int) (f3 : Int → Int) (k0 : Int) (hI : k0 = 0 ∧ (x1 = a1 ∧ x2 = a2 ∧ x3 = a3 ∧ x4 = a4 ∧ x5 = a5) ∧ psOK (s.2 0) (s.2 1) a1 a2 a3 a4 a5 ∧ (0 ≤ x6 ∧ x6 ≤ a5) ∧ f2 = s.2 2 ∧ ∀ z : Int, 0 ≤ z → z < x6 → f3 z = s.2 2 (60 * a1 + a2 + z)) (c_1 : x5 ≤ x6) : k0 = 0 ∧ (x3 = a3 ∧ x4 = a4 ∧ x5 = a5) ∧ psOK (s.2 0) (s.2 1) a1 a2 a3 a4 a5 ∧ (0 ≤ (0 : Int) ∧ (0 : Int) ≤ a5) ∧ f2 = moveC (s.2 2) (s.2 2) (60 * a1 + a2) (60 * a3 + a4) (0 : Int) ∧ ∀ z : Int, 0 ≤ z → z < a5 → f3 z = s.2 2 (60 * a1 + a2 + z) := by
  obtain ⟨hw, b2, b4, b5⟩ := hp
  (try simp only [bI_0, bI_n, Classical.not_not, jgt, jle] at *)
  (try (have hq := hI.2.2.1; unfold psOK at hq))
  (try have hr1 := hw a1 (by omega) (by omega))
  (try have hr2 := hw a3 (by omega) (by omega))
  (try rw [i64_id (x := a2 + a5) (by omega) (by omega)] at c_13)
  (try rw [i64_id (x := a4 + a5) (by omega) (by omega)] at c_14)
  (try unfold lex3)
  (try simp only [bI_0, bI_n, Classical.not_not] at *)
  (try simp (disch := omega) only [i32_id] at *)
  first | done | omega | ((repeat' (with_reducible apply And.intro)) <;> first | assumption | rfl | omega | (exact hI.1) | (exact hI.2.2.1) | (exact hI.2.2.2.2.1) | (exact hI.2.2.2.2.2) | (exact (psC_n (fun q => absurd q.1.1 (by assumption))).symm) | (exact (psC_n (fun q => absurd q.1.2 (by assumption))).symm) | (exact (psC_n (fun q => absurd q.2.1.1 (not_not_intro (by assumption)))).symm) | (exact (psC_n (fun q => absurd q.2.1.2 (not_not_intro (by assumption)))).symm) | (exact (psC_n (fun q => absurd q.2.2.1 (by assumption))).symm) | (exact (psC_n (fun q => absurd q.2.2.2 (by omega))).symm) | (rw [hI.2.2.2.2.1]; exact moveC_0 _ _ _ _) | (intro z h0 h1; exact hI.2.2.2.2.2 z h0 (by omega)) | (intro z h0 h1; omega) | (exact upto_s (p := fun z v => v = s.2 2 (60 * a1 + a2 + z)) hI.2.2.2.2.2 (by rw [hI.2.2.2.2.1, hI.2.1.1, hI.2.1.2.1])) | (rw [psC_y hI.2.2.1, hI.2.2.2.2.1, show x6 = a5 by omega]) | (rw [hI.2.2.2.2.1, hI.2.1.1, hI.2.1.2.1]; exact moveC_s (by omega) rfl (hI.2.2.2.2.2 x6 (by omega) (by omega))) | (exact ⟨⟨by omega, by omega⟩, ⟨by assumption, by assumption⟩, by assumption, by omega, by omega, by omega, by omega, by omega⟩) | (unfold psOK; omega) | (unfold rPaste; rw [if_neg (by omega)]) | (unfold rPaste; rw [if_pos (by omega), if_pos (by omega)]) | (unfold rPaste; rw [if_pos (by omega), if_neg (by omega), if_pos (by omega)]) | (unfold rPaste; rw [if_pos (by omega), if_neg (by omega), if_neg (by omega), if_pos (by omega)]) | (unfold rPaste; rw [if_pos (by omega), if_neg (by omega), if_neg (by omega), if_neg (by omega)]) | grind [upI])
theorem vX3_paste_2 (s : MS) (a1 : Int) (a2 : Int) (a3 : Int) (a4 : Int) (a5 : Int) (hp : rwOK (s.2 0) (s.2 1) ∧ (-2147483648 ≤ a2 ∧ a2 < 2147483648) ∧ (-2147483648 ≤ a4 ∧ a4 < 2147483648) ∧ (-2147483648 ≤ a5 ∧ a5 < 2147483648)) (x1 : Int) (x2 : Int) (x3 : Int) (x4 : Int) (x5 : Int) (x6 : Int) (f2 : Int → Int) (f3 : Int → Int) (k0 : Int) (hI : k0 = 0 ∧ (x1 = a1 ∧ x2 = a2 ∧ x3 = a3 ∧ x4 = a4 ∧ x5 = a5) ∧ psOK (s.2 0) (s.2 1) a1 a2 a3 a4 a5 ∧ (0 ≤ x6 ∧ x6 ≤ a5) ∧ f2 = s.2 2 ∧ ∀ z : Int, 0 ≤ z → z < x6 → f3 z = s.2 2 (60 * a1 + a2 + z)) (c_1 : x5 ≤ x6) : lex3 0 0 ((a5 - (0 : Int)).toNat) 0 1 ((a5 - x6).toNat) := by
  obtain ⟨hw, b2, b4, b5⟩ := hp
  (try simp only [bI_0, bI_n, Classical.not_not, jgt, jle] at *)
  (try (have hq := hI.2.2.1; unfold psOK at hq))
  (try have hr1 := hw a1 (by omega) (by omega))
  (try have hr2 := hw a3 (by omega) (by omega))
  (try rw [i64_id (x := a2 + a5) (by omega) (by omega)] at c_13)
  (try rw [i64_id (x := a4 + a5) (by omega) (by omega)] at c_14)
  (try unfold lex3)
  (try simp only [bI_0, bI_n, Classical.not_not] at *)
  (try simp (disch := omega) only [i32_id] at *)
  first | done | omega | ((repeat' (with_reducible apply And.intro)) <;> first | assumption | rfl | omega | (exact hI.1) | (exact hI.2.2.1) | (exact hI.2.2.2.2.1) | (exact hI.2.2.2.2.2) | (exact (psC_n (fun q => absurd q.1.1 (by assumption))).symm) | (exact (psC_n (fun q => absurd q.1.2 (by assumption))).symm) | (exact (psC_n (fun q => absurd q.2.1.1 (not_not_intro (by assumption)))).symm) | (exact (psC_n (fun q => absurd q.2.1.2 (not_not_intro (by assumption)))).symm) | (exact (psC_n (fun q => absurd q.2.2.1 (by assumption))).symm) | (exact (psC_n (fun q => absurd q.2.2.2 (by omega))).symm) | (rw [hI.2.2.2.2.1]; exact moveC_0 _ _ _ _) | (intro z h0 h1; exact hI.2.2.2.2.2 z h0 (by omega)) | (intro z h0 h1; omega) | (exact upto_s (p := fun z v => v = s.2 2 (60 * a1 + a2 + z)) hI.2.2.2.2.2 (by rw [hI.2.2.2.2.1, hI.2.1.1, hI.2.1.2.1])) | (rw [psC_y hI.2.2.1, hI.2.2.2.2.1, show x6 = a5 by omega]) | (rw [hI.2.2.2.2.1, hI.2.1.1, hI.2.1.2.1]; exact moveC_s (by omega) rfl (hI.2.2.2.2.2 x6 (by omega) (by omega))) | (exact ⟨⟨by omega, by omega⟩, ⟨by assumption, by assumption⟩, by assumption, by omega, by omega, by omega, by omega, by omega⟩) | (unfold psOK; omega) | (unfold rPaste; rw [if_neg (by omega)]) | (unfold rPaste; rw [if_pos (by omega), if_pos (by omega)]) | (unfold rPaste; rw [if_pos (by omega), if_neg (by omega), if_pos (by omega)]) | (unfold rPaste; rw [if_pos (by omega), if_neg (by omega), if_neg (by omega), if_pos (by omega)]) | (unfold rPaste; rw [if_pos (by omega), if_neg (by omega), if_neg (by omega), if_neg (by omega)]) | grind [upI])
theorem vX3_paste_3 (s : MS) (a1 : Int) (a2 : Int) (a3 : Int) (a4 : Int) (a5 : Int) (hp : rwOK (s.2 0) (s.2 1) ∧ (-2147483648 ≤ a2 ∧ a2 < 2147483648) ∧ (-2147483648 ≤ a4 ∧ a4 < 2147483648) ∧ (-2147483648 ≤ a5 ∧ a5 < 2147483648)) (x1 : Int) (x2 : Int) (x3 : Int) (x4 : Int) (x5 : Int) (x6 : Int) (f2 : Int → Int) (f3 : Int → Int) (k0 : Int) (hI : k0 = 0 ∧ (x1 = a1 ∧ x2 = a2 ∧ x3 = a3 ∧ x4 = a4 ∧ x5 = a5) ∧ psOK (s.2 0) (s.2 1) a1 a2 a3 a4 a5 ∧ (0 ≤ x6 ∧ x6 ≤ a5) ∧ f2 = s.2 2 ∧ ∀ z : Int, 0 ≤ z → z < x6 → f3 z = s.2 2 (60 * a1 + a2 + z)) (c_1 : ¬ x5 ≤ x6) : (0 ≤ (i32 ((i32 ((i32 (60 * x1)) + x2)) + x6)) ∧ (i32 ((i32 ((i32 (60 * x1)) + x2)) + x6)) < 240) := by
  obtain ⟨hw, b2, b4, b5⟩ := hp
  (try simp only [bI_0, bI_n, Classical.not_not, jgt, jle] at *)
  (try (have hq := hI.2.2.1; unfold psOK at hq))
  (try have hr1 := hw a1 (by omega) (by omega))
  (try have hr2 := hw a3 (by omega) (by omega))
  (try rw [i64_id (x := a2 + a5) (by omega) (by omega)] at c_13)
  (try rw [i64_id (x := a4 + a5) (by omega) (by omega)] at c_14)
  (try unfold lex3)
  (try simp only [bI_0, bI_n, Classical.not_not] at *)
  (try simp (disch := omega) only [i32_id] at *)
  first | done | omega | ((repeat' (with_reducible apply And.intro)) <;> first | assumption | rfl | omega | (exact hI.1) | (exact hI.2.2.1) | (exact hI.2.2.2.2.1) | (exact hI.2.2.2.2.2) | (exact (psC_n (fun q => absurd q.1.1 (by assumption))).symm) | (exact (psC_n (fun q => absurd q.1.2 (by assumption))).symm) | (exact (psC_n (fun q => absurd q.2.1.1 (not_not_intro (by assumption)))).symm) | (exact (psC_n (fun q => absurd q.2.1.2 (not_not_intro (by assumption)))).symm) | (exact (psC_n (fun q => absurd q.2.2.1 (by assumption))).symm) | (exact (psC_n (fun q => absurd q.2.2.2 (by omega))).symm) | (rw [hI.2.2.2.2.1]; exact moveC_0 _ _ _ _) | (intro z h0 h1; exact hI.2.2.2.2.2 z h0 (by omega)) | (intro z h0 h1; omega) | (exact upto_s (p := fun z v => v = s.2 2 (60 * a1 + a2 + z)) hI.2.2.2.2.2 (by rw [hI.2.2.2.2.1, hI.2.1.1, hI.2.1.2.1])) | (rw [psC_y hI.2.2.1, hI.2.2.2.2.1, show x6 = a5 by omega]) | (rw [hI.2.2.2.2.1, hI.2.1.1, hI.2.1.2.1]; exact moveC_s (by omega) rfl (hI.2.2.2.2.2 x6 (by omega) (by omega))) | (exact ⟨⟨by omega, by omega⟩, ⟨by assumption, by assumption⟩, by assumption, by omega, by omega, by omega, by omega, by omega⟩) | (unfold psOK; omega) | (unfold rPaste; rw [if_neg (by omega)]) | (unfold rPaste; rw [if_pos (by omega), if_pos (by omega)]) | (unfold rPaste; rw [if_pos (by omega), if_neg (by omega), if_pos (by omega)]) | (unfold rPaste; rw [if_pos (by omega), if_neg (by omega), if_neg (by omega), if_pos (by omega)]) | (unfold rPaste; rw [if_pos (by omega), if_neg (by omega), if_neg (by omega), if_neg (by omega)]) | grind [upI])
theorem vX3_paste_4 (s : MS) (a1 : Int) (a2 : Int) (a3 : Int) (a4 : Int) (a5 : Int) (hp : rwOK (s.2 0) (s.2 1) ∧ (-2147483648 ≤ a2 ∧ a2 < 2147483648) ∧ (-2147483648 ≤ a4 ∧ a4 < 2147483648) ∧ (-2147483648 ≤ a5 ∧ a5 < 2147483648)) (x1 : Int) (x2 : Int) (x3 : Int) (x4 : Int) (x5 : Int) (x6 : Int) (f2 : Int → Int) (f3 : Int → Int) (k0 : Int) (hI : k0 = 0 ∧ (x1 = a1 ∧ x2 = a2 ∧ x3 = a3 ∧ x4 = a4 ∧ x5 = a5) ∧ psOK (s.2 0) (s.2 1) a1 a2 a3 a4 a5 ∧ (0 ≤ x6 ∧ x6 ≤ a5) ∧ f2 = s.2 2 ∧ ∀ z : Int, 0 ≤ z → z < x6 → f3 z = s.2 2 (60 * a1 + a2 + z)) (c_1 : ¬ x5 ≤ x6) (o_2 : (0 ≤ (i32 ((i32 ((i32 (60 * x1)) + x2)) + x6)) ∧ (i32 ((i32 ((i32 (60 * x1)) + x2)) + x6)) < 240)) : (0 ≤ x6 ∧ x6 < 60) := by
  obtain ⟨hw, b2, b4, b5⟩ := hp
  (try simp only [bI_0, bI_n, Classical.not_not, jgt, jle] at *)
  (try (have hq := hI.2.2.1; unfold psOK at hq))
  (try have hr1 := hw a1 (by omega) (by omega))
  (try have hr2 := hw a3 (by omega) (by omega))
  (try rw [i64_id (x := a2 + a5) (by omega) (by omega)] at c_13)
  (try rw [i64_id (x := a4 + a5) (by omega) (by omega)] at c_14)
  (try unfold lex3)
  (try simp only [bI_0, bI_n, Classical.not_not] at *)
  (try simp (disch := omega) only [i32_id] at *)
  first | done | omega | ((repeat' (with_reducible apply And.intro)) <;> first | assumption | rfl | omega | (exact hI.1) | (exact hI.2.2.1) | (exact hI.2.2.2.2.1) | (exact hI.2.2.2.2.2) | (exact (psC_n (fun q => absurd q.1.1 (by assumption))).symm) | (exact (psC_n (fun q => absurd q.1.2 (by assumption))).symm) | (exact (psC_n (fun q => absurd q.2.1.1 (not_not_intro (by assumption)))).symm) | (exact (psC_n (fun q => absurd q.2.1.2 (not_not_intro (by assumption)))).symm) | (exact (psC_n (fun q => absurd q.2.2.1 (by assumption))).symm) | (exact (psC_n (fun q => absurd q.2.2.2 (by omega))).symm) | (rw [hI.2.2.2.2.1]; exact moveC_0 _ _ _ _) | (intro z h0 h1; exact hI.2.2.2.2.2 z h0 (by omega)) | (intro z h0 h1; omega) | (exact upto_s (p := fun z v => v = s.2 2 (60 * a1 + a2 + z)) hI.2.2.2.2.2 (by rw [hI.2.2.2.2.1, hI.2.1.1, hI.2.1.2.1])) | (rw [psC_y hI.2.2.1, hI.2.2.2.2.1, show x6 = a5 by omega]) | (rw [hI.2.2.2.2.1, hI.2.1.1, hI.2.1.2.1]; exact moveC_s (by omega) rfl (hI.2.2.2.2.2 x6 (by omega) (by omega))) | (exact ⟨⟨by omega, by omega⟩, ⟨by assumption, by assumption⟩, by assumption, by omega, by omega, by omega, by omega, by omega⟩) | (unfold psOK; omega) | (unfold rPaste; rw [if_neg (by omega)]) | (unfold rPaste; rw [if_pos (by omega), if_pos (by omega)]) | (unfold rPaste; rw [if_pos (by omega), if_neg (by omega), if_pos (by omega)]) | (unfold rPaste; rw [if_pos (by omega), if_neg (by omega), if_neg (by omega), if_pos (by omega)]) | (unfold rPaste; rw [if_pos (by omega), if_neg (by omega), if_neg (by omega), if_neg (by omega)]) | grind [upI])
theorem vX3_paste_5 (s : MS) (a1 : Int) (a2 : Int) (a3 : Int) (a4 : Int) (a5 : Int) (hp : rwOK (s.2 0) (s.2 1) ∧ (-2147483648 ≤ a2 ∧ a2 < 2147483648) ∧ (-2147483648 ≤ a4 ∧ a4 < 2147483648) ∧ (-2147483648 ≤ a5 ∧ a5 < 2147483648)) (x1 : Int) (x2 : Int) (x3 : Int) (x4 : Int) (x5 : Int) (x6 : Int) (f2 : Int → Int) (f3 : Int → Int) (k0 : Int) (hI : k0 = 0 ∧ (x1 = a1 ∧ x2 = a2 ∧ x3 = a3 ∧ x4 = a4 ∧ x5 = a5) ∧ psOK (s.2 0) (s.2 1) a1 a2 a3 a4 a5 ∧ (0 ≤ x6 ∧ x6 ≤ a5) ∧ f2 = s.2 2 ∧ ∀ z : Int, 0 ≤ z → z < x6 → f3 z = s.2 2 (60 * a1 + a2 + z)) (c_1 : ¬ x5 ≤ x6) (o_2 : (0 ≤ (i32 ((i32 ((i32 (60 * x1)) + x2)) + x6)) ∧ (i32 ((i32 ((i32 (60 * x1)) + x2)) + x6)) < 240)) (o_3 : (0 ≤ x6 ∧ x6 < 60)) : k0 = 0 ∧ (x1 = a1 ∧ x2 = a2 ∧ x3 = a3 ∧ x4 = a4 ∧ x5 = a5) ∧ psOK (s.2 0) (s.2 1) a1 a2 a3 a4 a5 ∧ (0 ≤ (i32 (x6 + 1)) ∧ (i32 (x6 + 1)) ≤ a5) ∧ f2 = s.2 2 ∧ ∀ z : Int, 0 ≤ z → z < (i32 (x6 + 1)) → (upI f3 x6 (f2 (i32 ((i32 ((i32 (60 * x1)) + x2)) + x6)))) z = s.2 2 (60 * a1 + a2 + z) := by
  obtain ⟨hw, b2, b4, b5⟩ := hp
  (try simp only [bI_0, bI_n, Classical.not_not, jgt, jle] at *)
  (try (have hq := hI.2.2.1; unfold psOK at hq))
  (try have hr1 := hw a1 (by omega) (by omega))
  (try have hr2 := hw a3 (by omega) (by omega))
  (try rw [i64_id (x := a2 + a5) (by omega) (by omega)] at c_13)
  (try rw [i64_id (x := a4 + a5) (by omega) (by omega)] at c_14)
  (try unfold lex3)
  (try simp only [bI_0, bI_n, Classical.not_not] at *)
  (try simp (disch := omega) only [i32_id] at *)
  first | done | omega | ((repeat' (with_reducible apply And.intro)) <;> first | assumption | rfl | omega | (exact hI.1) | (exact hI.2.2.1) | (exact hI.2.2.2.2.1) | (exact hI.2.2.2.2.2) | (exact (psC_n (fun q => absurd q.1.1 (by assumption))).symm) | (exact (psC_n (fun q => absurd q.1.2 (by assumption))).symm) | (exact (psC_n (fun q => absurd q.2.1.1 (not_not_intro (by assumption)))).symm) | (exact (psC_n (fun q => absurd q.2.1.2 (not_not_intro (by assumption)))).symm) | (exact (psC_n (fun q => absurd q.2.2.1 (by assumption))).symm) | (exact (psC_n (fun q => absurd q.2.2.2 (by omega))).symm) | (rw [hI.2.2.2.2.1]; exact moveC_0 _ _ _ _) | (intro z h0 h1; exact hI.2.2.2.2.2 z h0 (by omega)) | (intro z h0 h1; omega) | (exact upto_s (p := fun z v => v = s.2 2 (60 * a1 + a2 + z)) hI.2.2.2.2.2 (by rw [hI.2.2.2.2.1, hI.2.1.1, hI.2.1.2.1])) | (rw [psC_y hI.2.2.1, hI.2.2.2.2.1, show x6 = a5 by omega]) | (rw [hI.2.2.2.2.1, hI.2.1.1, hI.2.1.2.1]; exact moveC_s (by omega) rfl (hI.2.2.2.2.2 x6 (by omega) (by omega))) | (exact ⟨⟨by omega, by omega⟩, ⟨by assumption, by assumption⟩, by assumption, by omega, by omega, by omega, by omega, by omega⟩) | (unfold psOK; omega) | (unfold rPaste; rw [if_neg (by omega)]) | (unfold rPaste; rw [if_pos (by omega), if_pos (by omega)]) | (unfold rPaste; rw [if_pos (by omega), if_neg (by omega), if_pos (by omega)]) | (unfold rPaste; rw [if_pos (by omega), if_neg (by omega), if_neg (by omega), if_pos (by omega)]) | (unfold rPaste; rw [if_pos (by omega), if_neg (by omega), if_neg (by omega), if_neg (by omega)]) | grind [upI])
theorem vX3_paste_6 (s : MS) (a1 : Int) (a2 : Int) (a3 : Int) (a4 : Int) (a5 : Int) (hp : rwOK (s.2 0) (s.2 1) ∧ (-2147483648 ≤ a2 ∧ a2 < 2147483648) ∧ (-2147483648 ≤ a4 ∧ a4 < 2147483648) ∧ (-2147483648 ≤ a5 ∧ a5 < 2147483648)) (x1 : Int) (x2 : Int) (x3 : Int) (x4 : Int) (x5 : Int) (x6 : Int) (f2 : Int → Int) (f3 : Int → Int) (k0 : Int) (hI : k0 = 0 ∧ (x1 = a1 ∧ x2 = a2 ∧ x3 = a3 ∧ x4 = a4 ∧ x5 = a5) ∧ psOK (s.2 0) (s.2 1) a1 a2 a3 a4 a5 ∧ (0 ≤ x6 ∧ x6 ≤ a5) ∧ f2 = s.2 2 ∧ ∀ z : Int, 0 ≤ z → z < x6 → f3 z = s.2 2 (60 * a1 + a2 + z)) (c_1 : ¬ x5 ≤ x6) (o_2 : (0 ≤ (i32 ((i32 ((i32 (60 * x1)) + x2)) + x6)) ∧ (i32 ((i32 ((i32 (60 * x1)) + x2)) + x6)) < 240)) (o_3 : (0 ≤ x6 ∧ x6 < 60)) : lex3 0 1 ((a5 - (i32 (x6 + 1))).toNat) 0 1 ((a5 - x6).toNat) := by
  obtain ⟨hw, b2, b4, b5⟩ := hp
  (try simp only [bI_0, bI_n, Classical.not_not, jgt, jle] at *)
  (try (have hq := hI.2.2.1; unfold psOK at hq))
  (try have hr1 := hw a1 (by omega) (by omega))
  (try have hr2 := hw a3 (by omega) (by omega))
  (try rw [i64_id (x := a2 + a5) (by omega) (by omega)] at c_13)
  (try rw [i64_id (x := a4 + a5) (by omega) (by omega)] at c_14)
  (try unfold lex3)
  (try simp only [bI_0, bI_n, Classical.not_not] at *)
  (try simp (disch := omega) only [i32_id] at *)
  first | done | omega | ((repeat' (with_reducible apply And.intro)) <;> first | assumption | rfl | omega | (exact hI.1) | (exact hI.2.2.1) | (exact hI.2.2.2.2.1) | (exact hI.2.2.2.2.2) | (exact (psC_n (fun q => absurd q.1.1 (by assumption))).symm) | (exact (psC_n (fun q => absurd q.1.2 (by assumption))).symm) | (exact (psC_n (fun q => absurd q.2.1.1 (not_not_intro (by assumption)))).symm) | (exact (psC_n (fun q => absurd q.2.1.2 (not_not_intro (by assumption)))).symm) | (exact (psC_n (fun q => absurd q.2.2.1 (by assumption))).symm) | (exact (psC_n (fun q => absurd q.2.2.2 (by omega))).symm) | (rw [hI.2.2.2.2.1]; exact moveC_0 _ _ _ _) | (intro z h0 h1; exact hI.2.2.2.2.2 z h0 (by omega)) | (intro z h0 h1; omega) | (exact upto_s (p := fun z v => v = s.2 2 (60 * a1 + a2 + z)) hI.2.2.2.2.2 (by rw [hI.2.2.2.2.1, hI.2.1.1, hI.2.1.2.1])) | (rw [psC_y hI.2.2.1, hI.2.2.2.2.1, show x6 = a5 by omega]) | (rw [hI.2.2.2.2.1, hI.2.1.1, hI.2.1.2.1]; exact moveC_s (by omega) rfl (hI.2.2.2.2.2 x6 (by omega) (by omega))) | (exact ⟨⟨by omega, by omega⟩, ⟨by assumption, by assumption⟩, by assumption, by omega, by omega, by omega, by omega, by omega⟩) | (unfold psOK; omega) | (unfold rPaste; rw [if_neg (by omega)]) | (unfold rPaste; rw [if_pos (by omega), if_pos (by omega)]) | (unfold rPaste; rw [if_pos (by omega), if_neg (by omega), if_pos (by omega)]) | (unfold rPaste; rw [if_pos (by omega), if_neg (by omega), if_neg (by omega), if_pos (by omega)]) | (unfold rPaste; rw [if_pos (by omega), if_neg (by omega), if_neg (by omega), if_neg (by omega)]) | grind [upI])
theorem vX3_paste_7 (s : MS) (a1 : Int) (a2 : Int) (a3 : Int) (a4 : Int) (a5 : Int) (hp : rwOK (s.2 0) (s.2 1) ∧ (-2147483648 ≤ a2 ∧ a2 < 2147483648) ∧ (-2147483648 ≤ a4 ∧ a4 < 2147483648) ∧ (-2147483648 ≤ a5 ∧ a5 < 2147483648)) (x3 : Int) (x4 : Int) (x5 : Int) (x6 : Int) (f2 : Int → Int) (f3 : Int → Int) (k0 : Int) (hI : k0 = 0 ∧ (x3 = a3 ∧ x4 = a4 ∧ x5 = a5) ∧ psOK (s.2 0) (s.2 1) a1 a2 a3 a4 a5 ∧ (0 ≤ x6 ∧ x6 ≤ a5) ∧ f2 = moveC (s.2 2) (s.2 2) (60 * a1 + a2) (60 * a3 + a4) x6 ∧ ∀ z : Int, 0 ≤ z → z < a5 → f3 z = s.2 2 (60 * a1 + a2 + z)) (c_1 : x5 ≤ x6) : f2 = (psC (s.2 0) (s.2 1) (s.2 2) a1 a2 a3 a4 a5) := by
  obtain ⟨hw, b2, b4, b5⟩ := hp
  (try simp only [bI_0, bI_n, Classical.not_not, jgt, jle] at *)
  (try (have hq := hI.2.2.1; unfold psOK at hq))
  (try have hr1 := hw a1 (by omega) (by omega))
  (try have hr2 := hw a3 (by omega) (by omega))
  (try rw [i64_id (x := a2 + a5) (by omega) (by omega)] at c_13)
  (try rw [i64_id (x := a4 + a5) (by omega) (by omega)] at c_14)
  (try unfold lex3)
  (try simp only [bI_0, bI_n, Classical.not_not] at *)
  (try simp (disch := omega) only [i32_id] at *)
  first | done | omega | ((repeat' (with_reducible apply And.intro)) <;> first | assumption | rfl | omega | (exact hI.1) | (exact hI.2.2.1) | (exact hI.2.2.2.2.1) | (exact hI.2.2.2.2.2) | (exact (psC_n (fun q => absurd q.1.1 (by assumption))).symm) | (exact (psC_n (fun q => absurd q.1.2 (by assumption))).symm) | (exact (psC_n (fun q => absurd q.2.1.1 (not_not_intro (by assumption)))).symm) | (exact (psC_n (fun q => absurd q.2.1.2 (not_not_intro (by assumption)))).symm) | (exact (psC_n (fun q => absurd q.2.2.1 (by assumption))).symm) | (exact (psC_n (fun q => absurd q.2.2.2 (by omega))).symm) | (rw [hI.2.2.2.2.1]; exact moveC_0 _ _ _ _) | (intro z h0 h1; exact hI.2.2.2.2.2 z h0 (by omega)) | (intro z h0 h1; omega) | (exact upto_s (p := fun z v => v = s.2 2 (60 * a1 + a2 + z)) hI.2.2.2.2.2 (by rw [hI.2.2.2.2.1, hI.2.1.1, hI.2.1.2.1])) | (rw [psC_y hI.2.2.1, hI.2.2.2.2.1, show x6 = a5 by omega]) | (rw [hI.2.2.2.2.1, hI.2.1.1, hI.2.1.2.1]; exact moveC_s (by omega) rfl (hI.2.2.2.2.2 x6 (by omega) (by omega))) | (exact ⟨⟨by omega, by omega⟩, ⟨by assumption, by assumption⟩, by assumption, by omega, by omega, by omega, by omega, by omega⟩) | (unfold psOK; omega) | (unfold rPaste; rw [if_neg (by omega)]) | (unfold rPaste; rw [if_pos (by omega), if_pos (by omega)]) | (unfold rPaste; rw [if_pos (by omega), if_neg (by omega), if_pos (by omega)]) | (unfold rPaste; rw [if_pos (by omega), if_neg (by omega), if_neg (by omega), if_pos (by omega)]) | (unfold rPaste; rw [if_pos (by omega), if_neg (by omega), if_neg (by omega), if_neg (by omega)]) | grind [upI])
theorem vX3_paste_8 (s : MS) (a1 : Int) (a2 : Int) (a3 : Int) (a4 : Int) (a5 : Int) (hp : rwOK (s.2 0) (s.2 1) ∧ (-2147483648 ≤ a2 ∧ a2 < 2147483648) ∧ (-2147483648 ≤ a4 ∧ a4 < 2147483648) ∧ (-2147483648 ≤ a5 ∧ a5 < 2147483648)) (x3 : Int) (x4 : Int) (x5 : Int) (x6 : Int) (f2 : Int → Int) (f3 : Int → Int) (k0 : Int) (hI : k0 = 0 ∧ (x3 = a3 ∧ x4 = a4 ∧ x5 = a5) ∧ psOK (s.2 0) (s.2 1) a1 a2 a3 a4 a5 ∧ (0 ≤ x6 ∧ x6 ≤ a5) ∧ f2 = moveC (s.2 2) (s.2 2) (60 * a1 + a2) (60 * a3 + a4) x6 ∧ ∀ z : Int, 0 ≤ z → z < a5 → f3 z = s.2 2 (60 * a1 + a2 + z)) (c_1 : x5 ≤ x6) : k0 = (0) := by
  obtain ⟨hw, b2, b4, b5⟩ := hp
  (try simp only [bI_0, bI_n, Classical.not_not, jgt, jle] at *)
  (try (have hq := hI.2.2.1; unfold psOK at hq))
  (try have hr1 := hw a1 (by omega) (by omega))
  (try have hr2 := hw a3 (by omega) (by omega))
  (try rw [i64_id (x := a2 + a5) (by omega) (by omega)] at c_13)
  (try rw [i64_id (x := a4 + a5) (by omega) (by omega)] at c_14)
  (try unfold lex3)
  (try simp only [bI_0, bI_n, Classical.not_not] at *)
  (try simp (disch := omega) only [i32_id] at *)
  first | done | omega | ((repeat' (with_reducible apply And.intro)) <;> first | assumption | rfl | omega | (exact hI.1) | (exact hI.2.2.1) | (exact hI.2.2.2.2.1) | (exact hI.2.2.2.2.2) | (exact (psC_n (fun q => absurd q.1.1 (by assumption))).symm) | (exact (psC_n (fun q => absurd q.1.2 (by assumption))).symm) | (exact (psC_n (fun q => absurd q.2.1.1 (not_not_intro (by assumption)))).symm) | (exact (psC_n (fun q => absurd q.2.1.2 (not_not_intro (by assumption)))).symm) | (exact (psC_n (fun q => absurd q.2.2.1 (by assumption))).symm) | (exact (psC_n (fun q => absurd q.2.2.2 (by omega))).symm) | (rw [hI.2.2.2.2.1]; exact moveC_0 _ _ _ _) | (intro z h0 h1; exact hI.2.2.2.2.2 z h0 (by omega)) | (intro z h0 h1; omega) | (exact upto_s (p := fun z v => v = s.2 2 (60 * a1 + a2 + z)) hI.2.2.2.2.2 (by rw [hI.2.2.2.2.1, hI.2.1.1, hI.2.1.2.1])) | (rw [psC_y hI.2.2.1, hI.2.2.2.2.1, show x6 = a5 by omega]) | (rw [hI.2.2.2.2.1, hI.2.1.1, hI.2.1.2.1]; exact moveC_s (by omega) rfl (hI.2.2.2.2.2 x6 (by omega) (by omega))) | (exact ⟨⟨by omega, by omega⟩, ⟨by assumption, by assumption⟩, by assumption, by omega, by omega, by omega, by omega, by omega⟩) | (unfold psOK; omega) | (unfold rPaste; rw [if_neg (by omega)]) | (unfold rPaste; rw [if_pos (by omega), if_pos (by omega)]) | (unfold rPaste; rw [if_pos (by omega), if_neg (by omega), if_pos (by omega)]) | (unfold rPaste; rw [if_pos (by omega), if_neg (by omega), if_neg (by omega), if_pos (by omega)]) | (unfold rPaste; rw [if_pos (by omega), if_neg (by omega), if_neg (by omega), if_neg (by omega)]) | grind [upI])
theorem vX3_paste_9 (s : MS) (a1 : Int) (a2 : Int) (a3 : Int) (a4 : Int) (a5 : Int) (hp : rwOK (s.2 0) (s.2 1) ∧ (-2147483648 ≤ a2 ∧ a2 < 2147483648) ∧ (-2147483648 ≤ a4 ∧ a4 < 2147483648) ∧ (-2147483648 ≤ a5 ∧ a5 < 2147483648)) (x3 : Int) (x4 : Int) (x5 : Int) (x6 : Int) (f2 : Int → Int) (f3 : Int → Int) (k0 : Int) (hI : k0 = 0 ∧ (x3 = a3 ∧ x4 = a4 ∧ x5 = a5) ∧ psOK (s.2 0) (s.2 1) a1 a2 a3 a4 a5 ∧ (0 ≤ x6 ∧ x6 ≤ a5) ∧ f2 = moveC (s.2 2) (s.2 2) (60 * a1 + a2) (60 * a3 + a4) x6 ∧ ∀ z : Int, 0 ≤ z → z < a5 → f3 z = s.2 2 (60 * a1 + a2 + z)) (c_1 : x5 ≤ x6) : 0 = (rPaste (s.2 0) (s.2 1) a1 a2 a3 a4 a5) := by
  obtain ⟨hw, b2, b4, b5⟩ := hp
  (try simp only [bI_0, bI_n, Classical.not_not, jgt, jle] at *)
  (try (have hq := hI.2.2.1; unfold psOK at hq))
  (try have hr1 := hw a1 (by omega) (by omega))
  (try have hr2 := hw a3 (by omega) (by omega))
  (try rw [i64_id (x := a2 + a5) (by omega) (by omega)] at c_13)
  (try rw [i64_id (x := a4 + a5) (by omega) (by omega)] at c_14)
  (try unfold lex3)
  (try simp only [bI_0, bI_n, Classical.not_not] at *)
  (try simp (disch := omega) only [i32_id] at *)
  first | done | omega | ((repeat' (with_reducible apply And.intro)) <;> first | assumption | rfl | omega | (exact hI.1) | (exact hI.2.2.1) | (exact hI.2.2.2.2.1) | (exact hI.2.2.2.2.2) | (exact (psC_n (fun q => absurd q.1.1 (by assumption))).symm) | (exact (psC_n (fun q => absurd q.1.2 (by assumption))).symm) | (exact (psC_n (fun q => absurd q.2.1.1 (not_not_intro (by assumption)))).symm) | (exact (psC_n (fun q => absurd q.2.1.2 (not_not_intro (by assumption)))).symm) | (exact (psC_n (fun q => absurd q.2.2.1 (by assumption))).symm) | (exact (psC_n (fun q => absurd q.2.2.2 (by omega))).symm) | (rw [hI.2.2.2.2.1]; exact moveC_0 _ _ _ _) | (intro z h0 h1; exact hI.2.2.2.2.2 z h0 (by omega)) | (intro z h0 h1; omega) | (exact upto_s (p := fun z v => v = s.2 2 (60 * a1 + a2 + z)) hI.2.2.2.2.2 (by rw [hI.2.2.2.2.1, hI.2.1.1, hI.2.1.2.1])) | (rw [psC_y hI.2.2.1, hI.2.2.2.2.1, show x6 = a5 by omega]) | (rw [hI.2.2.2.2.1, hI.2.1.1, hI.2.1.2.1]; exact moveC_s (by omega) rfl (hI.2.2.2.2.2 x6 (by omega) (by omega))) | (exact ⟨⟨by omega, by omega⟩, ⟨by assumption, by assumption⟩, by assumption, by omega, by omega, by omega, by omega, by omega⟩) | (unfold psOK; omega) | (unfold rPaste; rw [if_neg (by omega)]) | (unfold rPaste; rw [if_pos (by omega), if_pos (by omega)]) | (unfold rPaste; rw [if_pos (by omega), if_neg (by omega), if_pos (by omega)]) | (unfold rPaste; rw [if_pos (by omega), if_neg (by omega), if_neg (by omega), if_pos (by omega)]) | (unfold rPaste; rw [if_pos (by omega), if_neg (by omega), if_neg (by omega), if_neg (by omega)]) | grind [upI])
theorem vX3_paste_10 (s : MS) (a1 : Int) (a2 : Int) (a3 : Int) (a4 : Int) (a5 : Int) (hp : rwOK (s.2 0) (s.2 1) ∧ (-2147483648 ≤ a2 ∧ a2 < 2147483648) ∧ (-2147483648 ≤ a4 ∧ a4 < 2147483648) ∧ (-2147483648 ≤ a5 ∧ a5 < 2147483648)) (x3 : Int) (x4 : Int) (x5 : Int) (x6 : Int) (f2 : Int → Int) (f3 : Int → Int) (k0 : Int) (hI : k0 = 0 ∧ (x3 = a3 ∧ x4 = a4 ∧ x5 = a5) ∧ psOK (s.2 0) (s.2 1) a1 a2 a3 a4 a5 ∧ (0 ≤ x6 ∧ x6 ≤ a5) ∧ f2 = moveC (s.2 2) (s.2 2) (60 * a1 + a2) (60 * a3 + a4) x6 ∧ ∀ z : Int, 0 ≤ z → z < a5 → f3 z = s.2 2 (60 * a1 + a2 + z)) (c_1 : ¬ x5 ≤ x6) : (0 ≤ x6 ∧ x6 < 60) := by
  obtain ⟨hw, b2, b4, b5⟩ := hp
  (try simp only [bI_0, bI_n, Classical.not_not, jgt, jle] at *)
  (try (have hq := hI.2.2.1; unfold psOK at hq))
  (try have hr1 := hw a1 (by omega) (by omega))
  (try have hr2 := hw a3 (by omega) (by omega))
  (try rw [i64_id (x := a2 + a5) (by omega) (by omega)] at c_13)
  (try rw [i64_id (x := a4 + a5) (by omega) (by omega)] at c_14)
  (try unfold lex3)
  (try simp only [bI_0, bI_n, Classical.not_not] at *)
  (try simp (disch := omega) only [i32_id] at *)
  first | done | omega | ((repeat' (with_reducible apply And.intro)) <;> first | assumption | rfl | omega | (exact hI.1) | (exact hI.2.2.1) | (exact hI.2.2.2.2.1) | (exact hI.2.2.2.2.2) | (exact (psC_n (fun q => absurd q.1.1 (by assumption))).symm) | (exact (psC_n (fun q => absurd q.1.2 (by assumption))).symm) | (exact (psC_n (fun q => absurd q.2.1.1 (not_not_intro (by assumption)))).symm) | (exact (psC_n (fun q => absurd q.2.1.2 (not_not_intro (by assumption)))).symm) | (exact (psC_n (fun q => absurd q.2.2.1 (by assumption))).symm) | (exact (psC_n (fun q => absurd q.2.2.2 (by omega))).symm) | (rw [hI.2.2.2.2.1]; exact moveC_0 _ _ _ _) | (intro z h0 h1; exact hI.2.2.2.2.2 z h0 (by omega)) | (intro z h0 h1; omega) | (exact upto_s (p := fun z v => v = s.2 2 (60 * a1 + a2 + z)) hI.2.2.2.2.2 (by rw [hI.2.2.2.2.1, hI.2.1.1, hI.2.1.2.1])) | (rw [psC_y hI.2.2.1, hI.2.2.2.2.1, show x6 = a5 by omega]) | (rw [hI.2.2.2.2.1, hI.2.1.1, hI.2.1.2.1]; exact moveC_s (by omega) rfl (hI.2.2.2.2.2 x6 (by omega) (by omega))) | (exact ⟨⟨by omega, by omega⟩, ⟨by assumption, by assumption⟩, by assumption, by omega, by omega, by omega, by omega, by omega⟩) | (unfold psOK; omega) | (unfold rPaste; rw [if_neg (by omega)]) | (unfold rPaste; rw [if_pos (by omega), if_pos (by omega)]) | (unfold rPaste; rw [if_pos (by omega), if_neg (by omega), if_pos (by omega)]) | (unfold rPaste; rw [if_pos (by omega), if_neg (by omega), if_neg (by omega), if_pos (by omega)]) | (unfold rPaste; rw [if_pos (by omega), if_neg (by omega), if_neg (by omega), if_neg (by omega)]) | grind [upI])
theorem vX3_paste_11 (s : MS) (a1 : Int) (a2 : Int) (a3 : Int) (a4 : Int) (a5 : Int) (hp : rwOK (s.2 0) (s.2 1) ∧ (-2147483648 ≤ a2 ∧ a2 < 2147483648) ∧ (-2147483648 ≤ a4 ∧ a4 < 2147483648) ∧ (-2147483648 ≤ a5 ∧ a5 < 2147483648)) (x3 : Int) (x4 : Int) (x5 : Int) (x6 : Int) (f2 : Int → Int) (f3 : Int → Int) (k0 : Int) (hI : k0 = 0 ∧ (x3 = a3 ∧ x4 = a4 ∧ x5 = a5) ∧ psOK (s.2 0) (s.2 1) a1 a2 a3 a4 a5 ∧ (0 ≤ x6 ∧ x6 ≤ a5) ∧ f2 = moveC (s.2 2) (s.2 2) (60 * a1 + a2) (60 * a3 + a4) x6 ∧ ∀ z : Int, 0 ≤ z → z < a5 → f3 z = s.2 2 (60 * a1 + a2 + z)) (c_1 : ¬ x5 ≤ x6) (o_2 : (0 ≤ x6 ∧ x6 < 60)) : (0 ≤ (i32 ((i32 ((i32 (60 * x3)) + x4)) + x6)) ∧ (i32 ((i32 ((i32 (60 * x3)) + x4)) + x6)) < 240) := by
  obtain ⟨hw, b2, b4, b5⟩ := hp
  (try simp only [bI_0, bI_n, Classical.not_not, jgt, jle] at *)
  (try (have hq := hI.2.2.1; unfold psOK at hq))
  (try have hr1 := hw a1 (by omega) (by omega))
  (try have hr2 := hw a3 (by omega) (by omega))
  (try rw [i64_id (x := a2 + a5) (by omega) (by omega)] at c_13)
  (try rw [i64_id (x := a4 + a5) (by omega) (by omega)] at c_14)
  (try unfold lex3)
  (try simp only [bI_0, bI_n, Classical.not_not] at *)
  (try simp (disch := omega) only [i32_id] at *)
  first | done | omega | ((repeat' (with_reducible apply And.intro)) <;> first | assumption | rfl | omega | (exact hI.1) | (exact hI.2.2.1) | (exact hI.2.2.2.2.1) | (exact hI.2.2.2.2.2) | (exact (psC_n (fun q => absurd q.1.1 (by assumption))).symm) | (exact (psC_n (fun q => absurd q.1.2 (by assumption))).symm) | (exact (psC_n (fun q => absurd q.2.1.1 (not_not_intro (by assumption)))).symm) | (exact (psC_n (fun q => absurd q.2.1.2 (not_not_intro (by assumption)))).symm) | (exact (psC_n (fun q => absurd q.2.2.1 (by assumption))).symm) | (exact (psC_n (fun q => absurd q.2.2.2 (by omega))).symm) | (rw [hI.2.2.2.2.1]; exact moveC_0 _ _ _ _) | (intro z h0 h1; exact hI.2.2.2.2.2 z h0 (by omega)) | (intro z h0 h1; omega) | (exact upto_s (p := fun z v => v = s.2 2 (60 * a1 + a2 + z)) hI.2.2.2.2.2 (by rw [hI.2.2.2.2.1, hI.2.1.1, hI.2.1.2.1])) | (rw [psC_y hI.2.2.1, hI.2.2.2.2.1, show x6 = a5 by omega]) | (rw [hI.2.2.2.2.1, hI.2.1.1, hI.2.1.2.1]; exact moveC_s (by omega) rfl (hI.2.2.2.2.2 x6 (by omega) (by omega))) | (exact ⟨⟨by omega, by omega⟩, ⟨by assumption, by assumption⟩, by assumption, by omega, by omega, by omega, by omega, by omega⟩) | (unfold psOK; omega) | (unfold rPaste; rw [if_neg (by omega)]) | (unfold rPaste; rw [if_pos (by omega), if_pos (by omega)]) | (unfold rPaste; rw [if_pos (by omega), if_neg (by omega), if_pos (by omega)]) | (unfold rPaste; rw [if_pos (by omega), if_neg (by omega), if_neg (by omega), if_pos (by omega)]) | (unfold rPaste; rw [if_pos (by omega), if_neg (by omega), if_neg (by omega), if_neg (by omega)]) | grind [upI])
theorem vX3_paste_12 (s : MS) (a1 : Int) (a2 : Int) (a3 : Int) (a4 : Int) (a5 : Int) (hp : rwOK (s.2 0) (s.2 1) ∧ (-2147483648 ≤ a2 ∧ a2 < 2147483648) ∧ (-2147483648 ≤ a4 ∧ a4 < 2147483648) ∧ (-2147483648 ≤ a5 ∧ a5 < 2147483648)) (x3 : Int) (x4 : Int) (x5 : Int) (x6 : Int) (f2 : Int → Int) (f3 : Int → Int) (k0 : Int) (hI : k0 = 0 ∧ (x3 = a3 ∧ x4 = a4 ∧ x5 = a5) ∧ psOK (s.2 0) (s.2 1) a1 a2 a3 a4 a5 ∧ (0 ≤ x6 ∧ x6 ≤ a5) ∧ f2 = moveC (s.2 2) (s.2 2) (60 * a1 + a2) (60 * a3 + a4) x6 ∧ ∀ z : Int, 0 ≤ z → z < a5 → f3 z = s.2 2 (60 * a1 + a2 + z)) (c_1 : ¬ x5 ≤ x6) (o_2 : (0 ≤ x6 ∧ x6 < 60)) (o_3 : (0 ≤ (i32 ((i32 ((i32 (60 * x3)) + x4)) + x6)) ∧ (i32 ((i32 ((i32 (60 * x3)) + x4)) + x6)) < 240)) : k0 = 0 ∧ (x3 = a3 ∧ x4 = a4 ∧ x5 = a5) ∧ psOK (s.2 0) (s.2 1) a1 a2 a3 a4 a5 ∧ (0 ≤ (i32 (x6 + 1)) ∧ (i32 (x6 + 1)) ≤ a5) ∧ (upI f2 (i32 ((i32 ((i32 (60 * x3)) + x4)) + x6)) (f3 x6)) = moveC (s.2 2) (s.2 2) (60 * a1 + a2) (60 * a3 + a4) (i32 (x6 + 1)) ∧ ∀ z : Int, 0 ≤ z → z < a5 → f3 z = s.2 2 (60 * a1 + a2 + z) := by
  obtain ⟨hw, b2, b4, b5⟩ := hp
  (try simp only [bI_0, bI_n, Classical.not_not, jgt, jle] at *)
  (try (have hq := hI.2.2.1; unfold psOK at hq))
  (try have hr1 := hw a1 (by omega) (by omega))
  (try have hr2 := hw a3 (by omega) (by omega))
  (try rw [i64_id (x := a2 + a5) (by omega) (by omega)] at c_13)
  (try rw [i64_id (x := a4 + a5) (by omega) (by omega)] at c_14)
  (try unfold lex3)
  (try simp only [bI_0, bI_n, Classical.not_not] at *)
  (try simp (disch := omega) only [i32_id] at *)
  first | done | omega | ((repeat' (with_reducible apply And.intro)) <;> first | assumption | rfl | omega | (exact hI.1) | (exact hI.2.2.1) | (exact hI.2.2.2.2.1) | (exact hI.2.2.2.2.2) | (exact (psC_n (fun q => absurd q.1.1 (by assumption))).symm) | (exact (psC_n (fun q => absurd q.1.2 (by assumption))).symm) | (exact (psC_n (fun q => absurd q.2.1.1 (not_not_intro (by assumption)))).symm) | (exact (psC_n (fun q => absurd q.2.1.2 (not_not_intro (by assumption)))).symm) | (exact (psC_n (fun q => absurd q.2.2.1 (by assumption))).symm) | (exact (psC_n (fun q => absurd q.2.2.2 (by omega))).symm) | (rw [hI.2.2.2.2.1]; exact moveC_0 _ _ _ _) | (intro z h0 h1; exact hI.2.2.2.2.2 z h0 (by omega)) | (intro z h0 h1; omega) | (exact upto_s (p := fun z v => v = s.2 2 (60 * a1 + a2 + z)) hI.2.2.2.2.2 (by rw [hI.2.2.2.2.1, hI.2.1.1, hI.2.1.2.1])) | (rw [psC_y hI.2.2.1, hI.2.2.2.2.1, show x6 = a5 by omega]) | (rw [hI.2.2.2.2.1, hI.2.1.1, hI.2.1.2.1]; exact moveC_s (by omega) rfl (hI.2.2.2.2.2 x6 (by omega) (by omega))) | (exact ⟨⟨by omega, by omega⟩, ⟨by assumption, by assumption⟩, by assumption, by omega, by omega, by omega, by omega, by omega⟩) | (unfold psOK; omega) | (unfold rPaste; rw [if_neg (by omega)]) | (unfold rPaste; rw [if_pos (by omega), if_pos (by omega)]) | (unfold rPaste; rw [if_pos (by omega), if_neg (by omega), if_pos (by omega)]) | (unfold rPaste; rw [if_pos (by omega), if_neg (by omega), if_neg (by omega), if_pos (by omega)]) | (unfold rPaste; rw [if_pos (by omega), if_neg (by omega), if_neg (by omega), if_neg (by omega)]) | grind [upI])
theorem vX3_paste_13 (s : MS) (a1 : Int) (a2 : Int) (a3 : Int) (a4 : Int) (a5 : Int) (hp : rwOK (s.2 0) (s.2 1) ∧ (-2147483648 ≤ a2 ∧ a2 < 2147483648) ∧ (-2147483648 ≤ a4 ∧ a4 < 2147483648) ∧ (-2147483648 ≤ a5 ∧ a5 < 2147483648)) (x3 : Int) (x4 : Int) (x5 : Int) (x6 : Int) (f2 : Int → Int) (f3 : Int → Int) (k0 : Int) (hI : k0 = 0 ∧ (x3 = a3 ∧ x4 = a4 ∧ x5 = a5) ∧ psOK (s.2 0) (s.2 1) a1 a2 a3 a4 a5 ∧ (0 ≤ x6 ∧ x6 ≤ a5) ∧ f2 = moveC (s.2 2) (s.2 2) (60 * a1 + a2) (60 * a3 + a4) x6 ∧ ∀ z : Int, 0 ≤ z → z < a5 → f3 z = s.2 2 (60 * a1 + a2 + z)) (c_1 : ¬ x5 ≤ x6) (o_2 : (0 ≤ x6 ∧ x6 < 60)) (o_3 : (0 ≤ (i32 ((i32 ((i32 (60 * x3)) + x4)) + x6)) ∧ (i32 ((i32 ((i32 (60 * x3)) + x4)) + x6)) < 240)) : lex3 0 0 ((a5 - (i32 (x6 + 1))).toNat) 0 0 ((a5 - x6).toNat) := by
  obtain ⟨hw, b2, b4, b5⟩ := hp
  (try simp only [bI_0, bI_n, Classical.not_not, jgt, jle] at *)
  (try (have hq := hI.2.2.1; unfold psOK at hq))
  (try have hr1 := hw a1 (by omega) (by omega))
  (try have hr2 := hw a3 (by omega) (by omega))
  (try rw [i64_id (x := a2 + a5) (by omega) (by omega)] at c_13)
  (try rw [i64_id (x := a4 + a5) (by omega) (by omega)] at c_14)
  (try unfold lex3)
  (try simp only [bI_0, bI_n, Classical.not_not] at *)
  (try simp (disch := omega) only [i32_id] at *)
  first | done | omega | ((repeat' (with_reducible apply And.intro)) <;> first | assumption | rfl | omega | (exact hI.1) | (exact hI.2.2.1) | (exact hI.2.2.2.2.1) | (exact hI.2.2.2.2.2) | (exact (psC_n (fun q => absurd q.1.1 (by assumption))).symm) | (exact (psC_n (fun q => absurd q.1.2 (by assumption))).symm) | (exact (psC_n (fun q => absurd q.2.1.1 (not_not_intro (by assumption)))).symm) | (exact (psC_n (fun q => absurd q.2.1.2 (not_not_intro (by assumption)))).symm) | (exact (psC_n (fun q => absurd q.2.2.1 (by assumption))).symm) | (exact (psC_n (fun q => absurd q.2.2.2 (by omega))).symm) | (rw [hI.2.2.2.2.1]; exact moveC_0 _ _ _ _) | (intro z h0 h1; exact hI.2.2.2.2.2 z h0 (by omega)) | (intro z h0 h1; omega) | (exact upto_s (p := fun z v => v = s.2 2 (60 * a1 + a2 + z)) hI.2.2.2.2.2 (by rw [hI.2.2.2.2.1, hI.2.1.1, hI.2.1.2.1])) | (rw [psC_y hI.2.2.1, hI.2.2.2.2.1, show x6 = a5 by omega]) | (rw [hI.2.2.2.2.1, hI.2.1.1, hI.2.1.2.1]; exact moveC_s (by omega) rfl (hI.2.2.2.2.2 x6 (by omega) (by omega))) | (exact ⟨⟨by omega, by omega⟩, ⟨by assumption, by assumption⟩, by assumption, by omega, by omega, by omega, by omega, by omega⟩) | (unfold psOK; omega) | (unfold rPaste; rw [if_neg (by omega)]) | (unfold rPaste; rw [if_pos (by omega), if_pos (by omega)]) | (unfold rPaste; rw [if_pos (by omega), if_neg (by omega), if_pos (by omega)]) | (unfold rPaste; rw [if_pos (by omega), if_neg (by omega), if_neg (by omega), if_pos (by omega)]) | (unfold rPaste; rw [if_pos (by omega), if_neg (by omega), if_neg (by omega), if_neg (by omega)]) | grind [upI])
theorem vX3_paste_14 (s : MS) (a1 : Int) (a2 : Int) (a3 : Int) (a4 : Int) (a5 : Int) (hp : rwOK (s.2 0) (s.2 1) ∧ (-2147483648 ≤ a2 ∧ a2 < 2147483648) ∧ (-2147483648 ≤ a4 ∧ a4 < 2147483648) ∧ (-2147483648 ≤ a5 ∧ a5 < 2147483648)) (c_2 : (bI (0 ≤ a1 ∧ a1 ≤ 3)) = 0) : (s.2 2) = (psC (s.2 0) (s.2 1) (s.2 2) a1 a2 a3 a4 a5) := by
  obtain ⟨hw, b2, b4, b5⟩ := hp
  (try simp only [bI_0, bI_n, Classical.not_not, jgt, jle] at *)
  (try (have hq := hI.2.2.1; unfold psOK at hq))
  (try have hr1 := hw a1 (by omega) (by omega))
  (try have hr2 := hw a3 (by omega) (by omega))
  (try rw [i64_id (x := a2 + a5) (by omega) (by omega)] at c_13)
  (try rw [i64_id (x := a4 + a5) (by omega) (by omega)] at c_14)
  (try unfold lex3)
  (try simp only [bI_0, bI_n, Classical.not_not] at *)
  (try simp (disch := omega) only [i32_id] at *)
  first | done | omega | ((repeat' (with_reducible apply And.intro)) <;> first | assumption | rfl | omega | (exact hI.1) | (exact hI.2.2.1) | (exact hI.2.2.2.2.1) | (exact hI.2.2.2.2.2) | (exact (psC_n (fun q => absurd q.1.1 (by assumption))).symm) | (exact (psC_n (fun q => absurd q.1.2 (by assumption))).symm) | (exact (psC_n (fun q => absurd q.2.1.1 (not_not_intro (by assumption)))).symm) | (exact (psC_n (fun q => absurd q.2.1.2 (not_not_intro (by assumption)))).symm) | (exact (psC_n (fun q => absurd q.2.2.1 (by assumption))).symm) | (exact (psC_n (fun q => absurd q.2.2.2 (by omega))).symm) | (rw [hI.2.2.2.2.1]; exact moveC_0 _ _ _ _) | (intro z h0 h1; exact hI.2.2.2.2.2 z h0 (by omega)) | (intro z h0 h1; omega) | (exact upto_s (p := fun z v => v = s.2 2 (60 * a1 + a2 + z)) hI.2.2.2.2.2 (by rw [hI.2.2.2.2.1, hI.2.1.1, hI.2.1.2.1])) | (rw [psC_y hI.2.2.1, hI.2.2.2.2.1, show x6 = a5 by omega]) | (rw [hI.2.2.2.2.1, hI.2.1.1, hI.2.1.2.1]; exact moveC_s (by omega) rfl (hI.2.2.2.2.2 x6 (by omega) (by omega))) | (exact ⟨⟨by omega, by omega⟩, ⟨by assumption, by assumption⟩, by assumption, by omega, by omega, by omega, by omega, by omega⟩) | (unfold psOK; omega) | (unfold rPaste; rw [if_neg (by omega)]) | (unfold rPaste; rw [if_pos (by omega), if_pos (by omega)]) | (unfold rPaste; rw [if_pos (by omega), if_neg (by omega), if_pos (by omega)]) | (unfold rPaste; rw [if_pos (by omega), if_neg (by omega), if_neg (by omega), if_pos (by omega)]) | (unfold rPaste; rw [if_pos (by omega), if_neg (by omega), if_neg (by omega), if_neg (by omega)]) | grind [upI])
theorem vX3_paste_15 (s : MS) (a1 : Int) (a2 : Int) (a3 : Int) (a4 : Int) (a5 : Int) (hp : rwOK (s.2 0) (s.2 1) ∧ (-2147483648 ≤ a2 ∧ a2 < 2147483648) ∧ (-2147483648 ≤ a4 ∧ a4 < 2147483648) ∧ (-2147483648 ≤ a5 ∧ a5 < 2147483648)) (c_2 : (bI (0 ≤ a1 ∧ a1 ≤ 3)) = 0) : (-2) = (rPaste (s.2 0) (s.2 1) a1 a2 a3 a4 a5) := by
  obtain ⟨hw, b2, b4, b5⟩ := hp
  (try simp only [bI_0, bI_n, Classical.not_not, jgt, jle] at *)
  (try (have hq := hI.2.2.1; unfold psOK at hq))
  (try have hr1 := hw a1 (by omega) (by omega))
  (try have hr2 := hw a3 (by omega) (by omega))
  (try rw [i64_id (x := a2 + a5) (by omega) (by omega)] at c_13)
  (try rw [i64_id (x := a4 + a5) (by omega) (by omega)] at c_14)
  (try unfold lex3)
  (try simp only [bI_0, bI_n, Classical.not_not] at *)
  (try simp (disch := omega) only [i32_id] at *)
  first | done | omega | ((repeat' (with_reducible apply And.intro)) <;> first | assumption | rfl | omega | (exact hI.1) | (exact hI.2.2.1) | (exact hI.2.2.2.2.1) | (exact hI.2.2.2.2.2) | (exact (psC_n (fun q => absurd q.1.1 (by assumption))).symm) | (exact (psC_n (fun q => absurd q.1.2 (by assumption))).symm) | (exact (psC_n (fun q => absurd q.2.1.1 (not_not_intro (by assumption)))).symm) | (exact (psC_n (fun q => absurd q.2.1.2 (not_not_intro (by assumption)))).symm) | (exact (psC_n (fun q => absurd q.2.2.1 (by assumption))).symm) | (exact (psC_n (fun q => absurd q.2.2.2 (by omega))).symm) | (rw [hI.2.2.2.2.1]; exact moveC_0 _ _ _ _) | (intro z h0 h1; exact hI.2.2.2.2.2 z h0 (by omega)) | (intro z h0 h1; omega) | (exact upto_s (p := fun z v => v = s.2 2 (60 * a1 + a2 + z)) hI.2.2.2.2.2 (by rw [hI.2.2.2.2.1, hI.2.1.1, hI.2.1.2.1])) | (rw [psC_y hI.2.2.1, hI.2.2.2.2.1, show x6 = a5 by omega]) | (rw [hI.2.2.2.2.1, hI.2.1.1, hI.2.1.2.1]; exact moveC_s (by omega) rfl (hI.2.2.2.2.2 x6 (by omega) (by omega))) | (exact ⟨⟨by omega, by omega⟩, ⟨by assumption, by assumption⟩, by assumption, by omega, by omega, by omega, by omega, by omega⟩) | (unfold psOK; omega) | (unfold rPaste; rw [if_neg (by omega)]) | (unfold rPaste; rw [if_pos (by omega), if_pos (by omega)]) | (unfold rPaste; rw [if_pos (by omega), if_neg (by omega), if_pos (by omega)]) | (unfold rPaste; rw [if_pos (by omega), if_neg (by omega), if_neg (by omega), if_pos (by omega)]) | (unfold rPaste; rw [if_pos (by omega), if_neg (by omega), if_neg (by omega), if_neg (by omega)]) | grind [upI])
theorem vX3_paste_16 (s : MS) (a1 : Int) (a2 : Int) (a3 : Int) (a4 : Int) (a5 : Int) (hp : rwOK (s.2 0) (s.2 1) ∧ (-2147483648 ≤ a2 ∧ a2 < 2147483648) ∧ (-2147483648 ≤ a4 ∧ a4 < 2147483648) ∧ (-2147483648 ≤ a5 ∧ a5 < 2147483648)) (c_2 : ¬ (bI (0 ≤ a1 ∧ a1 ≤ 3)) = 0) (c_4 : ¬ (bI (0 ≤ a3 ∧ a3 ≤ 3)) = 0) : (0 ≤ a1 ∧ a1 < 4) := by
  obtain ⟨hw, b2, b4, b5⟩ := hp
  (try simp only [bI_0, bI_n, Classical.not_not, jgt, jle] at *)
  (try (have hq := hI.2.2.1; unfold psOK at hq))
  (try have hr1 := hw a1 (by omega) (by omega))
  (try have hr2 := hw a3 (by omega) (by omega))
  (try rw [i64_id (x := a2 + a5) (by omega) (by omega)] at c_13)
  (try rw [i64_id (x := a4 + a5) (by omega) (by omega)] at c_14)
  (try unfold lex3)
  (try simp only [bI_0, bI_n, Classical.not_not] at *)
  (try simp (disch := omega) only [i32_id] at *)
  first | done | omega | ((repeat' (with_reducible apply And.intro)) <;> first | assumption | rfl | omega | (exact hI.1) | (exact hI.2.2.1) | (exact hI.2.2.2.2.1) | (exact hI.2.2.2.2.2) | (exact (psC_n (fun q => absurd q.1.1 (by assumption))).symm) | (exact (psC_n (fun q => absurd q.1.2 (by assumption))).symm) | (exact (psC_n (fun q => absurd q.2.1.1 (not_not_intro (by assumption)))).symm) | (exact (psC_n (fun q => absurd q.2.1.2 (not_not_intro (by assumption)))).symm) | (exact (psC_n (fun q => absurd q.2.2.1 (by assumption))).symm) | (exact (psC_n (fun q => absurd q.2.2.2 (by omega))).symm) | (rw [hI.2.2.2.2.1]; exact moveC_0 _ _ _ _) | (intro z h0 h1; exact hI.2.2.2.2.2 z h0 (by omega)) | (intro z h0 h1; omega) | (exact upto_s (p := fun z v => v = s.2 2 (60 * a1 + a2 + z)) hI.2.2.2.2.2 (by rw [hI.2.2.2.2.1, hI.2.1.1, hI.2.1.2.1])) | (rw [psC_y hI.2.2.1, hI.2.2.2.2.1, show x6 = a5 by omega]) | (rw [hI.2.2.2.2.1, hI.2.1.1, hI.2.1.2.1]; exact moveC_s (by omega) rfl (hI.2.2.2.2.2 x6 (by omega) (by omega))) | (exact ⟨⟨by omega, by omega⟩, ⟨by assumption, by assumption⟩, by assumption, by omega, by omega, by omega, by omega, by omega⟩) | (unfold psOK; omega) | (unfold rPaste; rw [if_neg (by omega)]) | (unfold rPaste; rw [if_pos (by omega), if_pos (by omega)]) | (unfold rPaste; rw [if_pos (by omega), if_neg (by omega), if_pos (by omega)]) | (unfold rPaste; rw [if_pos (by omega), if_neg (by omega), if_neg (by omega), if_pos (by omega)]) | (unfold rPaste; rw [if_pos (by omega), if_neg (by omega), if_neg (by omega), if_neg (by omega)]) | grind [upI])
theorem vX3_paste_17 (s : MS) (a1 : Int) (a2 : Int) (a3 : Int) (a4 : Int) (a5 : Int) (hp : rwOK (s.2 0) (s.2 1) ∧ (-2147483648 ≤ a2 ∧ a2 < 2147483648) ∧ (-2147483648 ≤ a4 ∧ a4 < 2147483648) ∧ (-2147483648 ≤ a5 ∧ a5 < 2147483648)) (c_2 : ¬ (bI (0 ≤ a1 ∧ a1 ≤ 3)) = 0) (c_4 : ¬ (bI (0 ≤ a3 ∧ a3 ≤ 3)) = 0) (o_5 : (0 ≤ a1 ∧ a1 < 4)) (c_6 : (s.2 0 a1) = (-1)) : (s.2 2) = (psC (s.2 0) (s.2 1) (s.2 2) a1 a2 a3 a4 a5) := by
  obtain ⟨hw, b2, b4, b5⟩ := hp
  (try simp only [bI_0, bI_n, Classical.not_not, jgt, jle] at *)
  (try (have hq := hI.2.2.1; unfold psOK at hq))
  (try have hr1 := hw a1 (by omega) (by omega))
  (try have hr2 := hw a3 (by omega) (by omega))
  (try rw [i64_id (x := a2 + a5) (by omega) (by omega)] at c_13)
  (try rw [i64_id (x := a4 + a5) (by omega) (by omega)] at c_14)
  (try unfold lex3)
  (try simp only [bI_0, bI_n, Classical.not_not] at *)
  (try simp (disch := omega) only [i32_id] at *)
  first | done | omega | ((repeat' (with_reducible apply And.intro)) <;> first | assumption | rfl | omega | (exact hI.1) | (exact hI.2.2.1) | (exact hI.2.2.2.2.1) | (exact hI.2.2.2.2.2) | (exact (psC_n (fun q => absurd q.1.1 (by assumption))).symm) | (exact (psC_n (fun q => absurd q.1.2 (by assumption))).symm) | (exact (psC_n (fun q => absurd q.2.1.1 (not_not_intro (by assumption)))).symm) | (exact (psC_n (fun q => absurd q.2.1.2 (not_not_intro (by assumption)))).symm) | (exact (psC_n (fun q => absurd q.2.2.1 (by assumption))).symm) | (exact (psC_n (fun q => absurd q.2.2.2 (by omega))).symm) | (rw [hI.2.2.2.2.1]; exact moveC_0 _ _ _ _) | (intro z h0 h1; exact hI.2.2.2.2.2 z h0 (by omega)) | (intro z h0 h1; omega) | (exact upto_s (p := fun z v => v = s.2 2 (60 * a1 + a2 + z)) hI.2.2.2.2.2 (by rw [hI.2.2.2.2.1, hI.2.1.1, hI.2.1.2.1])) | (rw [psC_y hI.2.2.1, hI.2.2.2.2.1, show x6 = a5 by omega]) | (rw [hI.2.2.2.2.1, hI.2.1.1, hI.2.1.2.1]; exact moveC_s (by omega) rfl (hI.2.2.2.2.2 x6 (by omega) (by omega))) | (exact ⟨⟨by omega, by omega⟩, ⟨by assumption, by assumption⟩, by assumption, by omega, by omega, by omega, by omega, by omega⟩) | (unfold psOK; omega) | (unfold rPaste; rw [if_neg (by omega)]) | (unfold rPaste; rw [if_pos (by omega), if_pos (by omega)]) | (unfold rPaste; rw [if_pos (by omega), if_neg (by omega), if_pos (by omega)]) | (unfold rPaste; rw [if_pos (by omega), if_neg (by omega), if_neg (by omega), if_pos (by omega)]) | (unfold rPaste; rw [if_pos (by omega), if_neg (by omega), if_neg (by omega), if_neg (by omega)]) | grind [upI])
theorem vX3_paste_18 (s : MS) (a1 : Int) (a2 : Int) (a3 : Int) (a4 : Int) (a5 : Int) (hp : rwOK (s.2 0) (s.2 1) ∧ (-2147483648 ≤ a2 ∧ a2 < 2147483648) ∧ (-2147483648 ≤ a4 ∧ a4 < 2147483648) ∧ (-2147483648 ≤ a5 ∧ a5 < 2147483648)) (c_2 : ¬ (bI (0 ≤ a1 ∧ a1 ≤ 3)) = 0) (c_4 : ¬ (bI (0 ≤ a3 ∧ a3 ≤ 3)) = 0) (o_5 : (0 ≤ a1 ∧ a1 < 4)) (c_6 : (s.2 0 a1) = (-1)) : (-6) = (rPaste (s.2 0) (s.2 1) a1 a2 a3 a4 a5) := by
  obtain ⟨hw, b2, b4, b5⟩ := hp
  (try simp only [bI_0, bI_n, Classical.not_not, jgt, jle] at *)
  (try (have hq := hI.2.2.1; unfold psOK at hq))
  (try have hr1 := hw a1 (by omega) (by omega))
  (try have hr2 := hw a3 (by omega) (by omega))
  (try rw [i64_id (x := a2 + a5) (by omega) (by omega)] at c_13)
  (try rw [i64_id (x := a4 + a5) (by omega) (by omega)] at c_14)
  (try unfold lex3)
  (try simp only [bI_0, bI_n, Classical.not_not] at *)
  (try simp (disch := omega) only [i32_id] at *)
  first | done | omega | ((repeat' (with_reducible apply And.intro)) <;> first | assumption | rfl | omega | (exact hI.1) | (exact hI.2.2.1) | (exact hI.2.2.2.2.1) | (exact hI.2.2.2.2.2) | (exact (psC_n (fun q => absurd q.1.1 (by assumption))).symm) | (exact (psC_n (fun q => absurd q.1.2 (by assumption))).symm) | (exact (psC_n (fun q => absurd q.2.1.1 (not_not_intro (by assumption)))).symm) | (exact (psC_n (fun q => absurd q.2.1.2 (not_not_intro (by assumption)))).symm) | (exact (psC_n (fun q => absurd q.2.2.1 (by assumption))).symm) | (exact (psC_n (fun q => absurd q.2.2.2 (by omega))).symm) | (rw [hI.2.2.2.2.1]; exact moveC_0 _ _ _ _) | (intro z h0 h1; exact hI.2.2.2.2.2 z h0 (by omega)) | (intro z h0 h1; omega) | (exact upto_s (p := fun z v => v = s.2 2 (60 * a1 + a2 + z)) hI.2.2.2.2.2 (by rw [hI.2.2.2.2.1, hI.2.1.1, hI.2.1.2.1])) | (rw [psC_y hI.2.2.1, hI.2.2.2.2.1, show x6 = a5 by omega]) | (rw [hI.2.2.2.2.1, hI.2.1.1, hI.2.1.2.1]; exact moveC_s (by omega) rfl (hI.2.2.2.2.2 x6 (by omega) (by omega))) | (exact ⟨⟨by omega, by omega⟩, ⟨by assumption, by assumption⟩, by assumption, by omega, by omega, by omega, by omega, by omega⟩) | (unfold psOK; omega) | (unfold rPaste; rw [if_neg (by omega)]) | (unfold rPaste; rw [if_pos (by omega), if_pos (by omega)]) | (unfold rPaste; rw [if_pos (by omega), if_neg (by omega), if_pos (by omega)]) | (unfold rPaste; rw [if_pos (by omega), if_neg (by omega), if_neg (by omega), if_pos (by omega)]) | (unfold rPaste; rw [if_pos (by omega), if_neg (by omega), if_neg (by omega), if_neg (by omega)]) | grind [upI])
theorem vX3_paste_19 (s : MS) (a1 : Int) (a2 : Int) (a3 : Int) (a4 : Int) (a5 : Int) (hp : rwOK (s.2 0) (s.2 1) ∧ (-2147483648 ≤ a2 ∧ a2 < 2147483648) ∧ (-2147483648 ≤ a4 ∧ a4 < 2147483648) ∧ (-2147483648 ≤ a5 ∧ a5 < 2147483648)) (c_2 : ¬ (bI (0 ≤ a1 ∧ a1 ≤ 3)) = 0) (c_4 : ¬ (bI (0 ≤ a3 ∧ a3 ≤ 3)) = 0) (o_5 : (0 ≤ a1 ∧ a1 < 4)) (c_6 : ¬ (s.2 0 a1) = (-1)) : (0 ≤ a3 ∧ a3 < 4) := by
  obtain ⟨hw, b2, b4, b5⟩ := hp
  (try simp only [bI_0, bI_n, Classical.not_not, jgt, jle] at *)
  (try (have hq := hI.2.2.1; unfold psOK at hq))
  (try have hr1 := hw a1 (by omega) (by omega))
  (try have hr2 := hw a3 (by omega) (by omega))
  (try rw [i64_id (x := a2 + a5) (by omega) (by omega)] at c_13)
  (try rw [i64_id (x := a4 + a5) (by omega) (by omega)] at c_14)
  (try unfold lex3)
  (try simp only [bI_0, bI_n, Classical.not_not] at *)
  (try simp (disch := omega) only [i32_id] at *)
  first | done | omega | ((repeat' (with_reducible apply And.intro)) <;> first | assumption | rfl | omega | (exact hI.1) | (exact hI.2.2.1) | (exact hI.2.2.2.2.1) | (exact hI.2.2.2.2.2) | (exact (psC_n (fun q => absurd q.1.1 (by assumption))).symm) | (exact (psC_n (fun q => absurd q.1.2 (by assumption))).symm) | (exact (psC_n (fun q => absurd q.2.1.1 (not_not_intro (by assumption)))).symm) | (exact (psC_n (fun q => absurd q.2.1.2 (not_not_intro (by assumption)))).symm) | (exact (psC_n (fun q => absurd q.2.2.1 (by assumption))).symm) | (exact (psC_n (fun q => absurd q.2.2.2 (by omega))).symm) | (rw [hI.2.2.2.2.1]; exact moveC_0 _ _ _ _) | (intro z h0 h1; exact hI.2.2.2.2.2 z h0 (by omega)) | (intro z h0 h1; omega) | (exact upto_s (p := fun z v => v = s.2 2 (60 * a1 + a2 + z)) hI.2.2.2.2.2 (by rw [hI.2.2.2.2.1, hI.2.1.1, hI.2.1.2.1])) | (rw [psC_y hI.2.2.1, hI.2.2.2.2.1, show x6 = a5 by omega]) | (rw [hI.2.2.2.2.1, hI.2.1.1, hI.2.1.2.1]; exact moveC_s (by omega) rfl (hI.2.2.2.2.2 x6 (by omega) (by omega))) | (exact ⟨⟨by omega, by omega⟩, ⟨by assumption, by assumption⟩, by assumption, by omega, by omega, by omega, by omega, by omega⟩) | (unfold psOK; omega) | (unfold rPaste; rw [if_neg (by omega)]) | (unfold rPaste; rw [if_pos (by omega), if_pos (by omega)]) | (unfold rPaste; rw [if_pos (by omega), if_neg (by omega), if_pos (by omega)]) | (unfold rPaste; rw [if_pos (by omega), if_neg (by omega), if_neg (by omega), if_pos (by omega)]) | (unfold rPaste; rw [if_pos (by omega), if_neg (by omega), if_neg (by omega), if_neg (by omega)]) | grind [upI])
theorem vX3_paste_20 (s : MS) (a1 : Int) (a2 : Int) (a3 : Int) (a4 : Int) (a5 : Int) (hp : rwOK (s.2 0) (s.2 1) ∧ (-2147483648 ≤ a2 ∧ a2 < 2147483648) ∧ (-2147483648 ≤ a4 ∧ a4 < 2147483648) ∧ (-2147483648 ≤ a5 ∧ a5 < 2147483648)) (c_2 : ¬ (bI (0 ≤ a1 ∧ a1 ≤ 3)) = 0) (c_4 : ¬ (bI (0 ≤ a3 ∧ a3 ≤ 3)) = 0) (o_5 : (0 ≤ a1 ∧ a1 < 4)) (c_6 : ¬ (s.2 0 a1) = (-1)) (o_7 : (0 ≤ a3 ∧ a3 < 4)) (c_8 : ¬ (s.2 0 a3) = (-1)) (c_9 : (s.2 0 a1) = (s.2 0 a3)) (c_10 : a2 < 0) : (s.2 2) = (psC (s.2 0) (s.2 1) (s.2 2) a1 a2 a3 a4 a5) := by
  obtain ⟨hw, b2, b4, b5⟩ := hp
  (try simp only [bI_0, bI_n, Classical.not_not, jgt, jle] at *)
  (try (have hq := hI.2.2.1; unfold psOK at hq))
  (try have hr1 := hw a1 (by omega) (by omega))
  (try have hr2 := hw a3 (by omega) (by omega))
  (try rw [i64_id (x := a2 + a5) (by omega) (by omega)] at c_13)
  (try rw [i64_id (x := a4 + a5) (by omega) (by omega)] at c_14)
  (try unfold lex3)
  (try simp only [bI_0, bI_n, Classical.not_not] at *)
  (try simp (disch := omega) only [i32_id] at *)
  first | done | omega | ((repeat' (with_reducible apply And.intro)) <;> first | assumption | rfl | omega | (exact hI.1) | (exact hI.2.2.1) | (exact hI.2.2.2.2.1) | (exact hI.2.2.2.2.2) | (exact (psC_n (fun q => absurd q.1.1 (by assumption))).symm) | (exact (psC_n (fun q => absurd q.1.2 (by assumption))).symm) | (exact (psC_n (fun q => absurd q.2.1.1 (not_not_intro (by assumption)))).symm) | (exact (psC_n (fun q => absurd q.2.1.2 (not_not_intro (by assumption)))).symm) | (exact (psC_n (fun q => absurd q.2.2.1 (by assumption))).symm) | (exact (psC_n (fun q => absurd q.2.2.2 (by omega))).symm) | (rw [hI.2.2.2.2.1]; exact moveC_0 _ _ _ _) | (intro z h0 h1; exact hI.2.2.2.2.2 z h0 (by omega)) | (intro z h0 h1; omega) | (exact upto_s (p := fun z v => v = s.2 2 (60 * a1 + a2 + z)) hI.2.2.2.2.2 (by rw [hI.2.2.2.2.1, hI.2.1.1, hI.2.1.2.1])) | (rw [psC_y hI.2.2.1, hI.2.2.2.2.1, show x6 = a5 by omega]) | (rw [hI.2.2.2.2.1, hI.2.1.1, hI.2.1.2.1]; exact moveC_s (by omega) rfl (hI.2.2.2.2.2 x6 (by omega) (by omega))) | (exact ⟨⟨by omega, by omega⟩, ⟨by assumption, by assumption⟩, by assumption, by omega, by omega, by omega, by omega, by omega⟩) | (unfold psOK; omega) | (unfold rPaste; rw [if_neg (by omega)]) | (unfold rPaste; rw [if_pos (by omega), if_pos (by omega)]) | (unfold rPaste; rw [if_pos (by omega), if_neg (by omega), if_pos (by omega)]) | (unfold rPaste; rw [if_pos (by omega), if_neg (by omega), if_neg (by omega), if_pos (by omega)]) | (unfold rPaste; rw [if_pos (by omega), if_neg (by omega), if_neg (by omega), if_neg (by omega)]) | grind [upI])
theorem vX3_paste_21 (s : MS) (a1 : Int) (a2 : Int) (a3 : Int) (a4 : Int) (a5 : Int) (hp : rwOK (s.2 0) (s.2 1) ∧ (-2147483648 ≤ a2 ∧ a2 < 2147483648) ∧ (-2147483648 ≤ a4 ∧ a4 < 2147483648) ∧ (-2147483648 ≤ a5 ∧ a5 < 2147483648)) (c_2 : ¬ (bI (0 ≤ a1 ∧ a1 ≤ 3)) = 0) (c_4 : ¬ (bI (0 ≤ a3 ∧ a3 ≤ 3)) = 0) (o_5 : (0 ≤ a1 ∧ a1 < 4)) (c_6 : ¬ (s.2 0 a1) = (-1)) (o_7 : (0 ≤ a3 ∧ a3 < 4)) (c_8 : ¬ (s.2 0 a3) = (-1)) (c_9 : (s.2 0 a1) = (s.2 0 a3)) (c_10 : a2 < 0) : (-7) = (rPaste (s.2 0) (s.2 1) a1 a2 a3 a4 a5) := by
  obtain ⟨hw, b2, b4, b5⟩ := hp
  (try simp only [bI_0, bI_n, Classical.not_not, jgt, jle] at *)
  (try (have hq := hI.2.2.1; unfold psOK at hq))
  (try have hr1 := hw a1 (by omega) (by omega))
  (try have hr2 := hw a3 (by omega) (by omega))
  (try rw [i64_id (x := a2 + a5) (by omega) (by omega)] at c_13)
  (try rw [i64_id (x := a4 + a5) (by omega) (by omega)] at c_14)
  (try unfold lex3)
  (try simp only [bI_0, bI_n, Classical.not_not] at *)
  (try simp (disch := omega) only [i32_id] at *)
  first | done | omega | ((repeat' (with_reducible apply And.intro)) <;> first | assumption | rfl | omega | (exact hI.1) | (exact hI.2.2.1) | (exact hI.2.2.2.2.1) | (exact hI.2.2.2.2.2) | (exact (psC_n (fun q => absurd q.1.1 (by assumption))).symm) | (exact (psC_n (fun q => absurd q.1.2 (by assumption))).symm) | (exact (psC_n (fun q => absurd q.2.1.1 (not_not_intro (by assumption)))).symm) | (exact (psC_n (fun q => absurd q.2.1.2 (not_not_intro (by assumption)))).symm) | (exact (psC_n (fun q => absurd q.2.2.1 (by assumption))).symm) | (exact (psC_n (fun q => absurd q.2.2.2 (by omega))).symm) | (rw [hI.2.2.2.2.1]; exact moveC_0 _ _ _ _) | (intro z h0 h1; exact hI.2.2.2.2.2 z h0 (by omega)) | (intro z h0 h1; omega) | (exact upto_s (p := fun z v => v = s.2 2 (60 * a1 + a2 + z)) hI.2.2.2.2.2 (by rw [hI.2.2.2.2.1, hI.2.1.1, hI.2.1.2.1])) | (rw [psC_y hI.2.2.1, hI.2.2.2.2.1, show x6 = a5 by omega]) | (rw [hI.2.2.2.2.1, hI.2.1.1, hI.2.1.2.1]; exact moveC_s (by omega) rfl (hI.2.2.2.2.2 x6 (by omega) (by omega))) | (exact ⟨⟨by omega, by omega⟩, ⟨by assumption, by assumption⟩, by assumption, by omega, by omega, by omega, by omega, by omega⟩) | (unfold psOK; omega) | (unfold rPaste; rw [if_neg (by omega)]) | (unfold rPaste; rw [if_pos (by omega), if_pos (by omega)]) | (unfold rPaste; rw [if_pos (by omega), if_neg (by omega), if_pos (by omega)]) | (unfold rPaste; rw [if_pos (by omega), if_neg (by omega), if_neg (by omega), if_pos (by omega)]) | (unfold rPaste; rw [if_pos (by omega), if_neg (by omega), if_neg (by omega), if_neg (by omega)]) | grind [upI])
theorem vX3_paste_22 (s : MS) (a1 : Int) (a2 : Int) (a3 : Int) (a4 : Int) (a5 : Int) (hp : rwOK (s.2 0) (s.2 1) ∧ (-2147483648 ≤ a2 ∧ a2 < 2147483648) ∧ (-2147483648 ≤ a4 ∧ a4 < 2147483648) ∧ (-2147483648 ≤ a5 ∧ a5 < 2147483648)) (c_2 : ¬ (bI (0 ≤ a1 ∧ a1 ≤ 3)) = 0) (c_4 : ¬ (bI (0 ≤ a3 ∧ a3 ≤ 3)) = 0) (o_5 : (0 ≤ a1 ∧ a1 < 4)) (c_6 : ¬ (s.2 0 a1) = (-1)) (o_7 : (0 ≤ a3 ∧ a3 < 4)) (c_8 : ¬ (s.2 0 a3) = (-1)) (c_9 : (s.2 0 a1) = (s.2 0 a3)) (c_10 : ¬ a2 < 0) (c_11 : a4 < 0) : (s.2 2) = (psC (s.2 0) (s.2 1) (s.2 2) a1 a2 a3 a4 a5) := by
  obtain ⟨hw, b2, b4, b5⟩ := hp
  (try simp only [bI_0, bI_n, Classical.not_not, jgt, jle] at *)
  (try (have hq := hI.2.2.1; unfold psOK at hq))
  (try have hr1 := hw a1 (by omega) (by omega))
  (try have hr2 := hw a3 (by omega) (by omega))
  (try rw [i64_id (x := a2 + a5) (by omega) (by omega)] at c_13)
  (try rw [i64_id (x := a4 + a5) (by omega) (by omega)] at c_14)
  (try unfold lex3)
  (try simp only [bI_0, bI_n, Classical.not_not] at *)
  (try simp (disch := omega) only [i32_id] at *)
  first | done | omega | ((repeat' (with_reducible apply And.intro)) <;> first | assumption | rfl | omega | (exact hI.1) | (exact hI.2.2.1) | (exact hI.2.2.2.2.1) | (exact hI.2.2.2.2.2) | (exact (psC_n (fun q => absurd q.1.1 (by assumption))).symm) | (exact (psC_n (fun q => absurd q.1.2 (by assumption))).symm) | (exact (psC_n (fun q => absurd q.2.1.1 (not_not_intro (by assumption)))).symm) | (exact (psC_n (fun q => absurd q.2.1.2 (not_not_intro (by assumption)))).symm) | (exact (psC_n (fun q => absurd q.2.2.1 (by assumption))).symm) | (exact (psC_n (fun q => absurd q.2.2.2 (by omega))).symm) | (rw [hI.2.2.2.2.1]; exact moveC_0 _ _ _ _) | (intro z h0 h1; exact hI.2.2.2.2.2 z h0 (by omega)) | (intro z h0 h1; omega) | (exact upto_s (p := fun z v => v = s.2 2 (60 * a1 + a2 + z)) hI.2.2.2.2.2 (by rw [hI.2.2.2.2.1, hI.2.1.1, hI.2.1.2.1])) | (rw [psC_y hI.2.2.1, hI.2.2.2.2.1, show x6 = a5 by omega]) | (rw [hI.2.2.2.2.1, hI.2.1.1, hI.2.1.2.1]; exact moveC_s (by omega) rfl (hI.2.2.2.2.2 x6 (by omega) (by omega))) | (exact ⟨⟨by omega, by omega⟩, ⟨by assumption, by assumption⟩, by assumption, by omega, by omega, by omega, by omega, by omega⟩) | (unfold psOK; omega) | (unfold rPaste; rw [if_neg (by omega)]) | (unfold rPaste; rw [if_pos (by omega), if_pos (by omega)]) | (unfold rPaste; rw [if_pos (by omega), if_neg (by omega), if_pos (by omega)]) | (unfold rPaste; rw [if_pos (by omega), if_neg (by omega), if_neg (by omega), if_pos (by omega)]) | (unfold rPaste; rw [if_pos (by omega), if_neg (by omega), if_neg (by omega), if_neg (by omega)]) | grind [upI])
theorem vX3_paste_23 (s : MS) (a1 : Int) (a2 : Int) (a3 : Int) (a4 : Int) (a5 : Int) (hp : rwOK (s.2 0) (s.2 1) ∧ (-2147483648 ≤ a2 ∧ a2 < 2147483648) ∧ (-2147483648 ≤ a4 ∧ a4 < 2147483648) ∧ (-2147483648 ≤ a5 ∧ a5 < 2147483648)) (c_2 : ¬ (bI (0 ≤ a1 ∧ a1 ≤ 3)) = 0) (c_4 : ¬ (bI (0 ≤ a3 ∧ a3 ≤ 3)) = 0) (o_5 : (0 ≤ a1 ∧ a1 < 4)) (c_6 : ¬ (s.2 0 a1) = (-1)) (o_7 : (0 ≤ a3 ∧ a3 < 4)) (c_8 : ¬ (s.2 0 a3) = (-1)) (c_9 : (s.2 0 a1) = (s.2 0 a3)) (c_10 : ¬ a2 < 0) (c_11 : a4 < 0) : (-7) = (rPaste (s.2 0) (s.2 1) a1 a2 a3 a4 a5) := by
  obtain ⟨hw, b2, b4, b5⟩ := hp
  (try simp only [bI_0, bI_n, Classical.not_not, jgt, jle] at *)
  (try (have hq := hI.2.2.1; unfold psOK at hq))
  (try have hr1 := hw a1 (by omega) (by omega))
  (try have hr2 := hw a3 (by omega) (by omega))
  (try rw [i64_id (x := a2 + a5) (by omega) (by omega)] at c_13)
  (try rw [i64_id (x := a4 + a5) (by omega) (by omega)] at c_14)
  (try unfold lex3)
  (try simp only [bI_0, bI_n, Classical.not_not] at *)
  (try simp (disch := omega) only [i32_id] at *)
  first | done | omega | ((repeat' (with_reducible apply And.intro)) <;> first | assumption | rfl | omega | (exact hI.1) | (exact hI.2.2.1) | (exact hI.2.2.2.2.1) | (exact hI.2.2.2.2.2) | (exact (psC_n (fun q => absurd q.1.1 (by assumption))).symm) | (exact (psC_n (fun q => absurd q.1.2 (by assumption))).symm) | (exact (psC_n (fun q => absurd q.2.1.1 (not_not_intro (by assumption)))).symm) | (exact (psC_n (fun q => absurd q.2.1.2 (not_not_intro (by assumption)))).symm) | (exact (psC_n (fun q => absurd q.2.2.1 (by assumption))).symm) | (exact (psC_n (fun q => absurd q.2.2.2 (by omega))).symm) | (rw [hI.2.2.2.2.1]; exact moveC_0 _ _ _ _) | (intro z h0 h1; exact hI.2.2.2.2.2 z h0 (by omega)) | (intro z h0 h1; omega) | (exact upto_s (p := fun z v => v = s.2 2 (60 * a1 + a2 + z)) hI.2.2.2.2.2 (by rw [hI.2.2.2.2.1, hI.2.1.1, hI.2.1.2.1])) | (rw [psC_y hI.2.2.1, hI.2.2.2.2.1, show x6 = a5 by omega]) | (rw [hI.2.2.2.2.1, hI.2.1.1, hI.2.1.2.1]; exact moveC_s (by omega) rfl (hI.2.2.2.2.2 x6 (by omega) (by omega))) | (exact ⟨⟨by omega, by omega⟩, ⟨by assumption, by assumption⟩, by assumption, by omega, by omega, by omega, by omega, by omega⟩) | (unfold psOK; omega) | (unfold rPaste; rw [if_neg (by omega)]) | (unfold rPaste; rw [if_pos (by omega), if_pos (by omega)]) | (unfold rPaste; rw [if_pos (by omega), if_neg (by omega), if_pos (by omega)]) | (unfold rPaste; rw [if_pos (by omega), if_neg (by omega), if_neg (by omega), if_pos (by omega)]) | (unfold rPaste; rw [if_pos (by omega), if_neg (by omega), if_neg (by omega), if_neg (by omega)]) | grind [upI])
theorem vX3_paste_24 (s : MS) (a1 : Int) (a2 : Int) (a3 : Int) (a4 : Int) (a5 : Int) (hp : rwOK (s.2 0) (s.2 1) ∧ (-2147483648 ≤ a2 ∧ a2 < 2147483648) ∧ (-2147483648 ≤ a4 ∧ a4 < 2147483648) ∧ (-2147483648 ≤ a5 ∧ a5 < 2147483648)) (c_2 : ¬ (bI (0 ≤ a1 ∧ a1 ≤ 3)) = 0) (c_4 : ¬ (bI (0 ≤ a3 ∧ a3 ≤ 3)) = 0) (o_5 : (0 ≤ a1 ∧ a1 < 4)) (c_6 : ¬ (s.2 0 a1) = (-1)) (o_7 : (0 ≤ a3 ∧ a3 < 4)) (c_8 : ¬ (s.2 0 a3) = (-1)) (c_9 : (s.2 0 a1) = (s.2 0 a3)) (c_10 : ¬ a2 < 0) (c_11 : ¬ a4 < 0) (c_12 : a5 < 0) : (s.2 2) = (psC (s.2 0) (s.2 1) (s.2 2) a1 a2 a3 a4 a5) := by
  obtain ⟨hw, b2, b4, b5⟩ := hp
  (try simp only [bI_0, bI_n, Classical.not_not, jgt, jle] at *)
  (try (have hq := hI.2.2.1; unfold psOK at hq))
  (try have hr1 := hw a1 (by omega) (by omega))
  (try have hr2 := hw a3 (by omega) (by omega))
  (try rw [i64_id (x := a2 + a5) (by omega) (by omega)] at c_13)
  (try rw [i64_id (x := a4 + a5) (by omega) (by omega)] at c_14)
  (try unfold lex3)
  (try simp only [bI_0, bI_n, Classical.not_not] at *)
  (try simp (disch := omega) only [i32_id] at *)
  first | done | omega | ((repeat' (with_reducible apply And.intro)) <;> first | assumption | rfl | omega | (exact hI.1) | (exact hI.2.2.1) | (exact hI.2.2.2.2.1) | (exact hI.2.2.2.2.2) | (exact (psC_n (fun q => absurd q.1.1 (by assumption))).symm) | (exact (psC_n (fun q => absurd q.1.2 (by assumption))).symm) | (exact (psC_n (fun q => absurd q.2.1.1 (not_not_intro (by assumption)))).symm) | (exact (psC_n (fun q => absurd q.2.1.2 (not_not_intro (by assumption)))).symm) | (exact (psC_n (fun q => absurd q.2.2.1 (by assumption))).symm) | (exact (psC_n (fun q => absurd q.2.2.2 (by omega))).symm) | (rw [hI.2.2.2.2.1]; exact moveC_0 _ _ _ _) | (intro z h0 h1; exact hI.2.2.2.2.2 z h0 (by omega)) | (intro z h0 h1; omega) | (exact upto_s (p := fun z v => v = s.2 2 (60 * a1 + a2 + z)) hI.2.2.2.2.2 (by rw [hI.2.2.2.2.1, hI.2.1.1, hI.2.1.2.1])) | (rw [psC_y hI.2.2.1, hI.2.2.2.2.1, show x6 = a5 by omega]) | (rw [hI.2.2.2.2.1, hI.2.1.1, hI.2.1.2.1]; exact moveC_s (by omega) rfl (hI.2.2.2.2.2 x6 (by omega) (by omega))) | (exact ⟨⟨by omega, by omega⟩, ⟨by assumption, by assumption⟩, by assumption, by omega, by omega, by omega, by omega, by omega⟩) | (unfold psOK; omega) | (unfold rPaste; rw [if_neg (by omega)]) | (unfold rPaste; rw [if_pos (by omega), if_pos (by omega)]) | (unfold rPaste; rw [if_pos (by omega), if_neg (by omega), if_pos (by omega)]) | (unfold rPaste; rw [if_pos (by omega), if_neg (by omega), if_neg (by omega), if_pos (by omega)]) | (unfold rPaste; rw [if_pos (by omega), if_neg (by omega), if_neg (by omega), if_neg (by omega)]) | grind [upI])
theorem vX3_paste_25 (s : MS) (a1 : Int) (a2 : Int) (a3 : Int) (a4 : Int) (a5 : Int) (hp : rwOK (s.2 0) (s.2 1) ∧ (-2147483648 ≤ a2 ∧ a2 < 2147483648) ∧ (-2147483648 ≤ a4 ∧ a4 < 2147483648) ∧ (-2147483648 ≤ a5 ∧ a5 < 2147483648)) (c_2 : ¬ (bI (0 ≤ a1 ∧ a1 ≤ 3)) = 0) (c_4 : ¬ (bI (0 ≤ a3 ∧ a3 ≤ 3)) = 0) (o_5 : (0 ≤ a1 ∧ a1 < 4)) (c_6 : ¬ (s.2 0 a1) = (-1)) (o_7 : (0 ≤ a3 ∧ a3 < 4)) (c_8 : ¬ (s.2 0 a3) = (-1)) (c_9 : (s.2 0 a1) = (s.2 0 a3)) (c_10 : ¬ a2 < 0) (c_11 : ¬ a4 < 0) (c_12 : a5 < 0) : (-7) = (rPaste (s.2 0) (s.2 1) a1 a2 a3 a4 a5) := by
  obtain ⟨hw, b2, b4, b5⟩ := hp
  (try simp only [bI_0, bI_n, Classical.not_not, jgt, jle] at *)
  (try (have hq := hI.2.2.1; unfold psOK at hq))
  (try have hr1 := hw a1 (by omega) (by omega))
  (try have hr2 := hw a3 (by omega) (by omega))
  (try rw [i64_id (x := a2 + a5) (by omega) (by omega)] at c_13)
  (try rw [i64_id (x := a4 + a5) (by omega) (by omega)] at c_14)
  (try unfold lex3)
  (try simp only [bI_0, bI_n, Classical.not_not] at *)
  (try simp (disch := omega) only [i32_id] at *)
  first | done | omega | ((repeat' (with_reducible apply And.intro)) <;> first | assumption | rfl | omega | (exact hI.1) | (exact hI.2.2.1) | (exact hI.2.2.2.2.1) | (exact hI.2.2.2.2.2) | (exact (psC_n (fun q => absurd q.1.1 (by assumption))).symm) | (exact (psC_n (fun q => absurd q.1.2 (by assumption))).symm) | (exact (psC_n (fun q => absurd q.2.1.1 (not_not_intro (by assumption)))).symm) | (exact (psC_n (fun q => absurd q.2.1.2 (not_not_intro (by assumption)))).symm) | (exact (psC_n (fun q => absurd q.2.2.1 (by assumption))).symm) | (exact (psC_n (fun q => absurd q.2.2.2 (by omega))).symm) | (rw [hI.2.2.2.2.1]; exact moveC_0 _ _ _ _) | (intro z h0 h1; exact hI.2.2.2.2.2 z h0 (by omega)) | (intro z h0 h1; omega) | (exact upto_s (p := fun z v => v = s.2 2 (60 * a1 + a2 + z)) hI.2.2.2.2.2 (by rw [hI.2.2.2.2.1, hI.2.1.1, hI.2.1.2.1])) | (rw [psC_y hI.2.2.1, hI.2.2.2.2.1, show x6 = a5 by omega]) | (rw [hI.2.2.2.2.1, hI.2.1.1, hI.2.1.2.1]; exact moveC_s (by omega) rfl (hI.2.2.2.2.2 x6 (by omega) (by omega))) | (exact ⟨⟨by omega, by omega⟩, ⟨by assumption, by assumption⟩, by assumption, by omega, by omega, by omega, by omega, by omega⟩) | (unfold psOK; omega) | (unfold rPaste; rw [if_neg (by omega)]) | (unfold rPaste; rw [if_pos (by omega), if_pos (by omega)]) | (unfold rPaste; rw [if_pos (by omega), if_neg (by omega), if_pos (by omega)]) | (unfold rPaste; rw [if_pos (by omega), if_neg (by omega), if_neg (by omega), if_pos (by omega)]) | (unfold rPaste; rw [if_pos (by omega), if_neg (by omega), if_neg (by omega), if_neg (by omega)]) | grind [upI])
theorem vX3_paste_26 (s : MS) (a1 : Int) (a2 : Int) (a3 : Int) (a4 : Int) (a5 : Int) (hp : rwOK (s.2 0) (s.2 1) ∧ (-2147483648 ≤ a2 ∧ a2 < 2147483648) ∧ (-2147483648 ≤ a4 ∧ a4 < 2147483648) ∧ (-2147483648 ≤ a5 ∧ a5 < 2147483648)) (c_2 : ¬ (bI (0 ≤ a1 ∧ a1 ≤ 3)) = 0) (c_4 : ¬ (bI (0 ≤ a3 ∧ a3 ≤ 3)) = 0) (o_5 : (0 ≤ a1 ∧ a1 < 4)) (c_6 : ¬ (s.2 0 a1) = (-1)) (o_7 : (0 ≤ a3 ∧ a3 < 4)) (c_8 : ¬ (s.2 0 a3) = (-1)) (c_9 : (s.2 0 a1) = (s.2 0 a3)) (c_10 : ¬ a2 < 0) (c_11 : ¬ a4 < 0) (c_12 : ¬ a5 < 0) (c_13 : 0 < (jcmp (i64 (a2 + a5)) (s.2 1 a1))) : (s.2 2) = (psC (s.2 0) (s.2 1) (s.2 2) a1 a2 a3 a4 a5) := by
  obtain ⟨hw, b2, b4, b5⟩ := hp
  (try simp only [bI_0, bI_n, Classical.not_not, jgt, jle] at *)
  (try (have hq := hI.2.2.1; unfold psOK at hq))
  (try have hr1 := hw a1 (by omega) (by omega))
  (try have hr2 := hw a3 (by omega) (by omega))
  (try rw [i64_id (x := a2 + a5) (by omega) (by omega)] at c_13)
  (try rw [i64_id (x := a4 + a5) (by omega) (by omega)] at c_14)
  (try unfold lex3)
  (try simp only [bI_0, bI_n, Classical.not_not] at *)
  (try simp (disch := omega) only [i32_id] at *)
  first | done | omega | ((repeat' (with_reducible apply And.intro)) <;> first | assumption | rfl | omega | (exact hI.1) | (exact hI.2.2.1) | (exact hI.2.2.2.2.1) | (exact hI.2.2.2.2.2) | (exact (psC_n (fun q => absurd q.1.1 (by assumption))).symm) | (exact (psC_n (fun q => absurd q.1.2 (by assumption))).symm) | (exact (psC_n (fun q => absurd q.2.1.1 (not_not_intro (by assumption)))).symm) | (exact (psC_n (fun q => absurd q.2.1.2 (not_not_intro (by assumption)))).symm) | (exact (psC_n (fun q => absurd q.2.2.1 (by assumption))).symm) | (exact (psC_n (fun q => absurd q.2.2.2 (by omega))).symm) | (rw [hI.2.2.2.2.1]; exact moveC_0 _ _ _ _) | (intro z h0 h1; exact hI.2.2.2.2.2 z h0 (by omega)) | (intro z h0 h1; omega) | (exact upto_s (p := fun z v => v = s.2 2 (60 * a1 + a2 + z)) hI.2.2.2.2.2 (by rw [hI.2.2.2.2.1, hI.2.1.1, hI.2.1.2.1])) | (rw [psC_y hI.2.2.1, hI.2.2.2.2.1, show x6 = a5 by omega]) | (rw [hI.2.2.2.2.1, hI.2.1.1, hI.2.1.2.1]; exact moveC_s (by omega) rfl (hI.2.2.2.2.2 x6 (by omega) (by omega))) | (exact ⟨⟨by omega, by omega⟩, ⟨by assumption, by assumption⟩, by assumption, by omega, by omega, by omega, by omega, by omega⟩) | (unfold psOK; omega) | (unfold rPaste; rw [if_neg (by omega)]) | (unfold rPaste; rw [if_pos (by omega), if_pos (by omega)]) | (unfold rPaste; rw [if_pos (by omega), if_neg (by omega), if_pos (by omega)]) | (unfold rPaste; rw [if_pos (by omega), if_neg (by omega), if_neg (by omega), if_pos (by omega)]) | (unfold rPaste; rw [if_pos (by omega), if_neg (by omega), if_neg (by omega), if_neg (by omega)]) | grind [upI])
theorem vX3_paste_27 (s : MS) (a1 : Int) (a2 : Int) (a3 : Int) (a4 : Int) (a5 : Int) (hp : rwOK (s.2 0) (s.2 1) ∧ (-2147483648 ≤ a2 ∧ a2 < 2147483648) ∧ (-2147483648 ≤ a4 ∧ a4 < 2147483648) ∧ (-2147483648 ≤ a5 ∧ a5 < 2147483648)) (c_2 : ¬ (bI (0 ≤ a1 ∧ a1 ≤ 3)) = 0) (c_4 : ¬ (bI (0 ≤ a3 ∧ a3 ≤ 3)) = 0) (o_5 : (0 ≤ a1 ∧ a1 < 4)) (c_6 : ¬ (s.2 0 a1) = (-1)) (o_7 : (0 ≤ a3 ∧ a3 < 4)) (c_8 : ¬ (s.2 0 a3) = (-1)) (c_9 : (s.2 0 a1) = (s.2 0 a3)) (c_10 : ¬ a2 < 0) (c_11 : ¬ a4 < 0) (c_12 : ¬ a5 < 0) (c_13 : 0 < (jcmp (i64 (a2 + a5)) (s.2 1 a1))) : (-7) = (rPaste (s.2 0) (s.2 1) a1 a2 a3 a4 a5) := by
  obtain ⟨hw, b2, b4, b5⟩ := hp
  (try simp only [bI_0, bI_n, Classical.not_not, jgt, jle] at *)
  (try (have hq := hI.2.2.1; unfold psOK at hq))
  (try have hr1 := hw a1 (by omega) (by omega))
  (try have hr2 := hw a3 (by omega) (by omega))
  (try rw [i64_id (x := a2 + a5) (by omega) (by omega)] at c_13)
  (try rw [i64_id (x := a4 + a5) (by omega) (by omega)] at c_14)
  (try unfold lex3)
  (try simp only [bI_0, bI_n, Classical.not_not] at *)
  (try simp (disch := omega) only [i32_id] at *)
  first | done | omega | ((repeat' (with_reducible apply And.intro)) <;> first | assumption | rfl | omega | (exact hI.1) | (exact hI.2.2.1) | (exact hI.2.2.2.2.1) | (exact hI.2.2.2.2.2) | (exact (psC_n (fun q => absurd q.1.1 (by assumption))).symm) | (exact (psC_n (fun q => absurd q.1.2 (by assumption))).symm) | (exact (psC_n (fun q => absurd q.2.1.1 (not_not_intro (by assumption)))).symm) | (exact (psC_n (fun q => absurd q.2.1.2 (not_not_intro (by assumption)))).symm) | (exact (psC_n (fun q => absurd q.2.2.1 (by assumption))).symm) | (exact (psC_n (fun q => absurd q.2.2.2 (by omega))).symm) | (rw [hI.2.2.2.2.1]; exact moveC_0 _ _ _ _) | (intro z h0 h1; exact hI.2.2.2.2.2 z h0 (by omega)) | (intro z h0 h1; omega) | (exact upto_s (p := fun z v => v = s.2 2 (60 * a1 + a2 + z)) hI.2.2.2.2.2 (by rw [hI.2.2.2.2.1, hI.2.1.1, hI.2.1.2.1])) | (rw [psC_y hI.2.2.1, hI.2.2.2.2.1, show x6 = a5 by omega]) | (rw [hI.2.2.2.2.1, hI.2.1.1, hI.2.1.2.1]; exact moveC_s (by omega) rfl (hI.2.2.2.2.2 x6 (by omega) (by omega))) | (exact ⟨⟨by omega, by omega⟩, ⟨by assumption, by assumption⟩, by assumption, by omega, by omega, by omega, by omega, by omega⟩) | (unfold psOK; omega) | (unfold rPaste; rw [if_neg (by omega)]) | (unfold rPaste; rw [if_pos (by omega), if_pos (by omega)]) | (unfold rPaste; rw [if_pos (by omega), if_neg (by omega), if_pos (by omega)]) | (unfold rPaste; rw [if_pos (by omega), if_neg (by omega), if_neg (by omega), if_pos (by omega)]) | (unfold rPaste; rw [if_pos (by omega), if_neg (by omega), if_neg (by omega), if_neg (by omega)]) | grind [upI])
theorem vX3_paste_28 (s : MS) (a1 : Int) (a2 : Int) (a3 : Int) (a4 : Int) (a5 : Int) (hp : rwOK (s.2 0) (s.2 1) ∧ (-2147483648 ≤ a2 ∧ a2 < 2147483648) ∧ (-2147483648 ≤ a4 ∧ a4 < 2147483648) ∧ (-2147483648 ≤ a5 ∧ a5 < 2147483648)) (c_2 : ¬ (bI (0 ≤ a1 ∧ a1 ≤ 3)) = 0) (c_4 : ¬ (bI (0 ≤ a3 ∧ a3 ≤ 3)) = 0) (o_5 : (0 ≤ a1 ∧ a1 < 4)) (c_6 : ¬ (s.2 0 a1) = (-1)) (o_7 : (0 ≤ a3 ∧ a3 < 4)) (c_8 : ¬ (s.2 0 a3) = (-1)) (c_9 : (s.2 0 a1) = (s.2 0 a3)) (c_10 : ¬ a2 < 0) (c_11 : ¬ a4 < 0) (c_12 : ¬ a5 < 0) (c_13 : ¬ 0 < (jcmp (i64 (a2 + a5)) (s.2 1 a1))) (c_14 : (jcmp (i64 (a4 + a5)) (s.2 1 a3)) ≤ 0) : (0 : Int) = 0 ∧ (a1 = a1 ∧ a2 = a2 ∧ a3 = a3 ∧ a4 = a4 ∧ a5 = a5) ∧ psOK (s.2 0) (s.2 1) a1 a2 a3 a4 a5 ∧ (0 ≤ (0 : Int) ∧ (0 : Int) ≤ a5) ∧ (s.2 2) = s.2 2 ∧ ∀ z : Int, 0 ≤ z → z < (0 : Int) → (s.2 3) z = s.2 2 (60 * a1 + a2 + z) := by
  obtain ⟨hw, b2, b4, b5⟩ := hp
  (try simp only [bI_0, bI_n, Classical.not_not, jgt, jle] at *)
  (try (have hq := hI.2.2.1; unfold psOK at hq))
  (try have hr1 := hw a1 (by omega) (by omega))
  (try have hr2 := hw a3 (by omega) (by omega))
  (try rw [i64_id (x := a2 + a5) (by omega) (by omega)] at c_13)
  (try rw [i64_id (x := a4 + a5) (by omega) (by omega)] at c_14)
  (try unfold lex3)
  (try simp only [bI_0, bI_n, Classical.not_not] at *)
  (try simp (disch := omega) only [i32_id] at *)
  first | done | omega | ((repeat' (with_reducible apply And.intro)) <;> first | assumption | rfl | omega | (exact hI.1) | (exact hI.2.2.1) | (exact hI.2.2.2.2.1) | (exact hI.2.2.2.2.2) | (exact (psC_n (fun q => absurd q.1.1 (by assumption))).symm) | (exact (psC_n (fun q => absurd q.1.2 (by assumption))).symm) | (exact (psC_n (fun q => absurd q.2.1.1 (not_not_intro (by assumption)))).symm) | (exact (psC_n (fun q => absurd q.2.1.2 (not_not_intro (by assumption)))).symm) | (exact (psC_n (fun q => absurd q.2.2.1 (by assumption))).symm) | (exact (psC_n (fun q => absurd q.2.2.2 (by omega))).symm) | (rw [hI.2.2.2.2.1]; exact moveC_0 _ _ _ _) | (intro z h0 h1; exact hI.2.2.2.2.2 z h0 (by omega)) | (intro z h0 h1; omega) | (exact upto_s (p := fun z v => v = s.2 2 (60 * a1 + a2 + z)) hI.2.2.2.2.2 (by rw [hI.2.2.2.2.1, hI.2.1.1, hI.2.1.2.1])) | (rw [psC_y hI.2.2.1, hI.2.2.2.2.1, show x6 = a5 by omega]) | (rw [hI.2.2.2.2.1, hI.2.1.1, hI.2.1.2.1]; exact moveC_s (by omega) rfl (hI.2.2.2.2.2 x6 (by omega) (by omega))) | (exact ⟨⟨by omega, by omega⟩, ⟨by assumption, by assumption⟩, by assumption, by omega, by omega, by omega, by omega, by omega⟩) | (unfold psOK; omega) | (unfold rPaste; rw [if_neg (by omega)]) | (unfold rPaste; rw [if_pos (by omega), if_pos (by omega)]) | (unfold rPaste; rw [if_pos (by omega), if_neg (by omega), if_pos (by omega)]) | (unfold rPaste; rw [if_pos (by omega), if_neg (by omega), if_neg (by omega), if_pos (by omega)]) | (unfold rPaste; rw [if_pos (by omega), if_neg (by omega), if_neg (by omega), if_neg (by omega)]) | grind [upI])
theorem vX3_paste_29 (s : MS) (a1 : Int) (a2 : Int) (a3 : Int) (a4 : Int) (a5 : Int) (hp : rwOK (s.2 0) (s.2 1) ∧ (-2147483648 ≤ a2 ∧ a2 < 2147483648) ∧ (-2147483648 ≤ a4 ∧ a4 < 2147483648) ∧ (-2147483648 ≤ a5 ∧ a5 < 2147483648)) (c_2 : ¬ (bI (0 ≤ a1 ∧ a1 ≤ 3)) = 0) (c_4 : ¬ (bI (0 ≤ a3 ∧ a3 ≤ 3)) = 0) (o_5 : (0 ≤ a1 ∧ a1 < 4)) (c_6 : ¬ (s.2 0 a1) = (-1)) (o_7 : (0 ≤ a3 ∧ a3 < 4)) (c_8 : ¬ (s.2 0 a3) = (-1)) (c_9 : (s.2 0 a1) = (s.2 0 a3)) (c_10 : ¬ a2 < 0) (c_11 : ¬ a4 < 0) (c_12 : ¬ a5 < 0) (c_13 : ¬ 0 < (jcmp (i64 (a2 + a5)) (s.2 1 a1))) (c_14 : ¬ (jcmp (i64 (a4 + a5)) (s.2 1 a3)) ≤ 0) : (s.2 2) = (psC (s.2 0) (s.2 1) (s.2 2) a1 a2 a3 a4 a5) := by
  obtain ⟨hw, b2, b4, b5⟩ := hp
  (try simp only [bI_0, bI_n, Classical.not_not, jgt, jle] at *)
  (try (have hq := hI.2.2.1; unfold psOK at hq))
  (try have hr1 := hw a1 (by omega) (by omega))
  (try have hr2 := hw a3 (by omega) (by omega))
  (try rw [i64_id (x := a2 + a5) (by omega) (by omega)] at c_13)
  (try rw [i64_id (x := a4 + a5) (by omega) (by omega)] at c_14)
  (try unfold lex3)
  (try simp only [bI_0, bI_n, Classical.not_not] at *)
  (try simp (disch := omega) only [i32_id] at *)
  first | done | omega | ((repeat' (with_reducible apply And.intro)) <;> first | assumption | rfl | omega | (exact hI.1) | (exact hI.2.2.1) | (exact hI.2.2.2.2.1) | (exact hI.2.2.2.2.2) | (exact (psC_n (fun q => absurd q.1.1 (by assumption))).symm) | (exact (psC_n (fun q => absurd q.1.2 (by assumption))).symm) | (exact (psC_n (fun q => absurd q.2.1.1 (not_not_intro (by assumption)))).symm) | (exact (psC_n (fun q => absurd q.2.1.2 (not_not_intro (by assumption)))).symm) | (exact (psC_n (fun q => absurd q.2.2.1 (by assumption))).symm) | (exact (psC_n (fun q => absurd q.2.2.2 (by omega))).symm) | (rw [hI.2.2.2.2.1]; exact moveC_0 _ _ _ _) | (intro z h0 h1; exact hI.2.2.2.2.2 z h0 (by omega)) | (intro z h0 h1; omega) | (exact upto_s (p := fun z v => v = s.2 2 (60 * a1 + a2 + z)) hI.2.2.2.2.2 (by rw [hI.2.2.2.2.1, hI.2.1.1, hI.2.1.2.1])) | (rw [psC_y hI.2.2.1, hI.2.2.2.2.1, show x6 = a5 by omega]) | (rw [hI.2.2.2.2.1, hI.2.1.1, hI.2.1.2.1]; exact moveC_s (by omega) rfl (hI.2.2.2.2.2 x6 (by omega) (by omega))) | (exact ⟨⟨by omega, by omega⟩, ⟨by assumption, by assumption⟩, by assumption, by omega, by omega, by omega, by omega, by omega⟩) | (unfold psOK; omega) | (unfold rPaste; rw [if_neg (by omega)]) | (unfold rPaste; rw [if_pos (by omega), if_pos (by omega)]) | (unfold rPaste; rw [if_pos (by omega), if_neg (by omega), if_pos (by omega)]) | (unfold rPaste; rw [if_pos (by omega), if_neg (by omega), if_neg (by omega), if_pos (by omega)]) | (unfold rPaste; rw [if_pos (by omega), if_neg (by omega), if_neg (by omega), if_neg (by omega)]) | grind [upI])
theorem vX3_paste_30 (s : MS) (a1 : Int) (a2 : Int) (a3 : Int) (a4 : Int) (a5 : Int) (hp : rwOK (s.2 0) (s.2 1) ∧ (-2147483648 ≤ a2 ∧ a2 < 2147483648) ∧ (-2147483648 ≤ a4 ∧ a4 < 2147483648) ∧ (-2147483648 ≤ a5 ∧ a5 < 2147483648)) (c_2 : ¬ (bI (0 ≤ a1 ∧ a1 ≤ 3)) = 0) (c_4 : ¬ (bI (0 ≤ a3 ∧ a3 ≤ 3)) = 0) (o_5 : (0 ≤ a1 ∧ a1 < 4)) (c_6 : ¬ (s.2 0 a1) = (-1)) (o_7 : (0 ≤ a3 ∧ a3 < 4)) (c_8 : ¬ (s.2 0 a3) = (-1)) (c_9 : (s.2 0 a1) = (s.2 0 a3)) (c_10 : ¬ a2 < 0) (c_11 : ¬ a4 < 0) (c_12 : ¬ a5 < 0) (c_13 : ¬ 0 < (jcmp (i64 (a2 + a5)) (s.2 1 a1))) (c_14 : ¬ (jcmp (i64 (a4 + a5)) (s.2 1 a3)) ≤ 0) : (-7) = (rPaste (s.2 0) (s.2 1) a1 a2 a3 a4 a5) := by
  obtain ⟨hw, b2, b4, b5⟩ := hp
  (try simp only [bI_0, bI_n, Classical.not_not, jgt, jle] at *)
  (try (have hq := hI.2.2.1; unfold psOK at hq))
  (try have hr1 := hw a1 (by omega) (by omega))
  (try have hr2 := hw a3 (by omega) (by omega))
  (try rw [i64_id (x := a2 + a5) (by omega) (by omega)] at c_13)
  (try rw [i64_id (x := a4 + a5) (by omega) (by omega)] at c_14)
  (try unfold lex3)
  (try simp only [bI_0, bI_n, Classical.not_not] at *)
  (try simp (disch := omega) only [i32_id] at *)
  first | done | omega | ((repeat' (with_reducible apply And.intro)) <;> first | assumption | rfl | omega | (exact hI.1) | (exact hI.2.2.1) | (exact hI.2.2.2.2.1) | (exact hI.2.2.2.2.2) | (exact (psC_n (fun q => absurd q.1.1 (by assumption))).symm) | (exact (psC_n (fun q => absurd q.1.2 (by assumption))).symm) | (exact (psC_n (fun q => absurd q.2.1.1 (not_not_intro (by assumption)))).symm) | (exact (psC_n (fun q => absurd q.2.1.2 (not_not_intro (by assumption)))).symm) | (exact (psC_n (fun q => absurd q.2.2.1 (by assumption))).symm) | (exact (psC_n (fun q => absurd q.2.2.2 (by omega))).symm) | (rw [hI.2.2.2.2.1]; exact moveC_0 _ _ _ _) | (intro z h0 h1; exact hI.2.2.2.2.2 z h0 (by omega)) | (intro z h0 h1; omega) | (exact upto_s (p := fun z v => v = s.2 2 (60 * a1 + a2 + z)) hI.2.2.2.2.2 (by rw [hI.2.2.2.2.1, hI.2.1.1, hI.2.1.2.1])) | (rw [psC_y hI.2.2.1, hI.2.2.2.2.1, show x6 = a5 by omega]) | (rw [hI.2.2.2.2.1, hI.2.1.1, hI.2.1.2.1]; exact moveC_s (by omega) rfl (hI.2.2.2.2.2 x6 (by omega) (by omega))) | (exact ⟨⟨by omega, by omega⟩, ⟨by assumption, by assumption⟩, by assumption, by omega, by omega, by omega, by omega, by omega⟩) | (unfold psOK; omega) | (unfold rPaste; rw [if_neg (by omega)]) | (unfold rPaste; rw [if_pos (by omega), if_pos (by omega)]) | (unfold rPaste; rw [if_pos (by omega), if_neg (by omega), if_pos (by omega)]) | (unfold rPaste; rw [if_pos (by omega), if_neg (by omega), if_neg (by omega), if_pos (by omega)]) | (unfold rPaste; rw [if_pos (by omega), if_neg (by omega), if_neg (by omega), if_neg (by omega)]) | grind [upI])
theorem vX3_paste_31 (s : MS) (a1 : Int) (a2 : Int) (a3 : Int) (a4 : Int) (a5 : Int) (hp : rwOK (s.2 0) (s.2 1) ∧ (-2147483648 ≤ a2 ∧ a2 < 2147483648) ∧ (-2147483648 ≤ a4 ∧ a4 < 2147483648) ∧ (-2147483648 ≤ a5 ∧ a5 < 2147483648)) (c_2 : ¬ (bI (0 ≤ a1 ∧ a1 ≤ 3)) = 0) (c_4 : ¬ (bI (0 ≤ a3 ∧ a3 ≤ 3)) = 0) (o_5 : (0 ≤ a1 ∧ a1 < 4)) (c_6 : ¬ (s.2 0 a1) = (-1)) (o_7 : (0 ≤ a3 ∧ a3 < 4)) (c_8 : ¬ (s.2 0 a3) = (-1)) (c_9 : ¬ (s.2 0 a1) = (s.2 0 a3)) : (s.2 2) = (psC (s.2 0) (s.2 1) (s.2 2) a1 a2 a3 a4 a5) := by
  obtain ⟨hw, b2, b4, b5⟩ := hp
  (try simp only [bI_0, bI_n, Classical.not_not, jgt, jle] at *)
  (try (have hq := hI.2.2.1; unfold psOK at hq))
  (try have hr1 := hw a1 (by omega) (by omega))
  (try have hr2 := hw a3 (by omega) (by omega))
  (try rw [i64_id (x := a2 + a5) (by omega) (by omega)] at c_13)
  (try rw [i64_id (x := a4 + a5) (by omega) (by omega)] at c_14)
  (try unfold lex3)
  (try simp only [bI_0, bI_n, Classical.not_not] at *)
  (try simp (disch := omega) only [i32_id] at *)
  first | done | omega | ((repeat' (with_reducible apply And.intro)) <;> first | assumption | rfl | omega | (exact hI.1) | (exact hI.2.2.1) | (exact hI.2.2.2.2.1) | (exact hI.2.2.2.2.2) | (exact (psC_n (fun q => absurd q.1.1 (by assumption))).symm) | (exact (psC_n (fun q => absurd q.1.2 (by assumption))).symm) | (exact (psC_n (fun q => absurd q.2.1.1 (not_not_intro (by assumption)))).symm) | (exact (psC_n (fun q => absurd q.2.1.2 (not_not_intro (by assumption)))).symm) | (exact (psC_n (fun q => absurd q.2.2.1 (by assumption))).symm) | (exact (psC_n (fun q => absurd q.2.2.2 (by omega))).symm) | (rw [hI.2.2.2.2.1]; exact moveC_0 _ _ _ _) | (intro z h0 h1; exact hI.2.2.2.2.2 z h0 (by omega)) | (intro z h0 h1; omega) | (exact upto_s (p := fun z v => v = s.2 2 (60 * a1 + a2 + z)) hI.2.2.2.2.2 (by rw [hI.2.2.2.2.1, hI.2.1.1, hI.2.1.2.1])) | (rw [psC_y hI.2.2.1, hI.2.2.2.2.1, show x6 = a5 by omega]) | (rw [hI.2.2.2.2.1, hI.2.1.1, hI.2.1.2.1]; exact moveC_s (by omega) rfl (hI.2.2.2.2.2 x6 (by omega) (by omega))) | (exact ⟨⟨by omega, by omega⟩, ⟨by assumption, by assumption⟩, by assumption, by omega, by omega, by omega, by omega, by omega⟩) | (unfold psOK; omega) | (unfold rPaste; rw [if_neg (by omega)]) | (unfold rPaste; rw [if_pos (by omega), if_pos (by omega)]) | (unfold rPaste; rw [if_pos (by omega), if_neg (by omega), if_pos (by omega)]) | (unfold rPaste; rw [if_pos (by omega), if_neg (by omega), if_neg (by omega), if_pos (by omega)]) | (unfold rPaste; rw [if_pos (by omega), if_neg (by omega), if_neg (by omega), if_neg (by omega)]) | grind [upI])
theorem vX3_paste_32 (s : MS) (a1 : Int) (a2 : Int) (a3 : Int) (a4 : Int) (a5 : Int) (hp : rwOK (s.2 0) (s.2 1) ∧ (-2147483648 ≤ a2 ∧ a2 < 2147483648) ∧ (-2147483648 ≤ a4 ∧ a4 < 2147483648) ∧ (-2147483648 ≤ a5 ∧ a5 < 2147483648)) (c_2 : ¬ (bI (0 ≤ a1 ∧ a1 ≤ 3)) = 0) (c_4 : ¬ (bI (0 ≤ a3 ∧ a3 ≤ 3)) = 0) (o_5 : (0 ≤ a1 ∧ a1 < 4)) (c_6 : ¬ (s.2 0 a1) = (-1)) (o_7 : (0 ≤ a3 ∧ a3 < 4)) (c_8 : ¬ (s.2 0 a3) = (-1)) (c_9 : ¬ (s.2 0 a1) = (s.2 0 a3)) : (-8) = (rPaste (s.2 0) (s.2 1) a1 a2 a3 a4 a5) := by
  obtain ⟨hw, b2, b4, b5⟩ := hp
  (try simp only [bI_0, bI_n, Classical.not_not, jgt, jle] at *)
  (try (have hq := hI.2.2.1; unfold psOK at hq))
  (try have hr1 := hw a1 (by omega) (by omega))
  (try have hr2 := hw a3 (by omega) (by omega))
  (try rw [i64_id (x := a2 + a5) (by omega) (by omega)] at c_13)
  (try rw [i64_id (x := a4 + a5) (by omega) (by omega)] at c_14)
  (try unfold lex3)
  (try simp only [bI_0, bI_n, Classical.not_not] at *)
  (try simp (disch := omega) only [i32_id] at *)
  first | done | omega | ((repeat' (with_reducible apply And.intro)) <;> first | assumption | rfl | omega | (exact hI.1) | (exact hI.2.2.1) | (exact hI.2.2.2.2.1) | (exact hI.2.2.2.2.2) | (exact (psC_n (fun q => absurd q.1.1 (by assumption))).symm) | (exact (psC_n (fun q => absurd q.1.2 (by assumption))).symm) | (exact (psC_n (fun q => absurd q.2.1.1 (not_not_intro (by assumption)))).symm) | (exact (psC_n (fun q => absurd q.2.1.2 (not_not_intro (by assumption)))).symm) | (exact (psC_n (fun q => absurd q.2.2.1 (by assumption))).symm) | (exact (psC_n (fun q => absurd q.2.2.2 (by omega))).symm) | (rw [hI.2.2.2.2.1]; exact moveC_0 _ _ _ _) | (intro z h0 h1; exact hI.2.2.2.2.2 z h0 (by omega)) | (intro z h0 h1; omega) | (exact upto_s (p := fun z v => v = s.2 2 (60 * a1 + a2 + z)) hI.2.2.2.2.2 (by rw [hI.2.2.2.2.1, hI.2.1.1, hI.2.1.2.1])) | (rw [psC_y hI.2.2.1, hI.2.2.2.2.1, show x6 = a5 by omega]) | (rw [hI.2.2.2.2.1, hI.2.1.1, hI.2.1.2.1]; exact moveC_s (by omega) rfl (hI.2.2.2.2.2 x6 (by omega) (by omega))) | (exact ⟨⟨by omega, by omega⟩, ⟨by assumption, by assumption⟩, by assumption, by omega, by omega, by omega, by omega, by omega⟩) | (unfold psOK; omega) | (unfold rPaste; rw [if_neg (by omega)]) | (unfold rPaste; rw [if_pos (by omega), if_pos (by omega)]) | (unfold rPaste; rw [if_pos (by omega), if_neg (by omega), if_pos (by omega)]) | (unfold rPaste; rw [if_pos (by omega), if_neg (by omega), if_neg (by omega), if_pos (by omega)]) | (unfold rPaste; rw [if_pos (by omega), if_neg (by omega), if_neg (by omega), if_neg (by omega)]) | grind [upI])
theorem vX3_paste_33 (s : MS) (a1 : Int) (a2 : Int) (a3 : Int) (a4 : Int) (a5 : Int) (hp : rwOK (s.2 0) (s.2 1) ∧ (-2147483648 ≤ a2 ∧ a2 < 2147483648) ∧ (-2147483648 ≤ a4 ∧ a4 < 2147483648) ∧ (-2147483648 ≤ a5 ∧ a5 < 2147483648)) (c_2 : ¬ (bI (0 ≤ a1 ∧ a1 ≤ 3)) = 0) (c_4 : ¬ (bI (0 ≤ a3 ∧ a3 ≤ 3)) = 0) (o_5 : (0 ≤ a1 ∧ a1 < 4)) (c_6 : ¬ (s.2 0 a1) = (-1)) (o_7 : (0 ≤ a3 ∧ a3 < 4)) (c_8 : (s.2 0 a3) = (-1)) : (s.2 2) = (psC (s.2 0) (s.2 1) (s.2 2) a1 a2 a3 a4 a5) := by
  obtain ⟨hw, b2, b4, b5⟩ := hp
  (try simp only [bI_0, bI_n, Classical.not_not, jgt, jle] at *)
  (try (have hq := hI.2.2.1; unfold psOK at hq))
  (try have hr1 := hw a1 (by omega) (by omega))
  (try have hr2 := hw a3 (by omega) (by omega))
  (try rw [i64_id (x := a2 + a5) (by omega) (by omega)] at c_13)
  (try rw [i64_id (x := a4 + a5) (by omega) (by omega)] at c_14)
  (try unfold lex3)
  (try simp only [bI_0, bI_n, Classical.not_not] at *)
  (try simp (disch := omega) only [i32_id] at *)
  first | done | omega | ((repeat' (with_reducible apply And.intro)) <;> first | assumption | rfl | omega | (exact hI.1) | (exact hI.2.2.1) | (exact hI.2.2.2.2.1) | (exact hI.2.2.2.2.2) | (exact (psC_n (fun q => absurd q.1.1 (by assumption))).symm) | (exact (psC_n (fun q => absurd q.1.2 (by assumption))).symm) | (exact (psC_n (fun q => absurd q.2.1.1 (not_not_intro (by assumption)))).symm) | (exact (psC_n (fun q => absurd q.2.1.2 (not_not_intro (by assumption)))).symm) | (exact (psC_n (fun q => absurd q.2.2.1 (by assumption))).symm) | (exact (psC_n (fun q => absurd q.2.2.2 (by omega))).symm) | (rw [hI.2.2.2.2.1]; exact moveC_0 _ _ _ _) | (intro z h0 h1; exact hI.2.2.2.2.2 z h0 (by omega)) | (intro z h0 h1; omega) | (exact upto_s (p := fun z v => v = s.2 2 (60 * a1 + a2 + z)) hI.2.2.2.2.2 (by rw [hI.2.2.2.2.1, hI.2.1.1, hI.2.1.2.1])) | (rw [psC_y hI.2.2.1, hI.2.2.2.2.1, show x6 = a5 by omega]) | (rw [hI.2.2.2.2.1, hI.2.1.1, hI.2.1.2.1]; exact moveC_s (by omega) rfl (hI.2.2.2.2.2 x6 (by omega) (by omega))) | (exact ⟨⟨by omega, by omega⟩, ⟨by assumption, by assumption⟩, by assumption, by omega, by omega, by omega, by omega, by omega⟩) | (unfold psOK; omega) | (unfold rPaste; rw [if_neg (by omega)]) | (unfold rPaste; rw [if_pos (by omega), if_pos (by omega)]) | (unfold rPaste; rw [if_pos (by omega), if_neg (by omega), if_pos (by omega)]) | (unfold rPaste; rw [if_pos (by omega), if_neg (by omega), if_neg (by omega), if_pos (by omega)]) | (unfold rPaste; rw [if_pos (by omega), if_neg (by omega), if_neg (by omega), if_neg (by omega)]) | grind [upI])
theorem vX3_paste_34 (s : MS) (a1 : Int) (a2 : Int) (a3 : Int) (a4 : Int) (a5 : Int) (hp : rwOK (s.2 0) (s.2 1) ∧ (-2147483648 ≤ a2 ∧ a2 < 2147483648) ∧ (-2147483648 ≤ a4 ∧ a4 < 2147483648) ∧ (-2147483648 ≤ a5 ∧ a5 < 2147483648)) (c_2 : ¬ (bI (0 ≤ a1 ∧ a1 ≤ 3)) = 0) (c_4 : ¬ (bI (0 ≤ a3 ∧ a3 ≤ 3)) = 0) (o_5 : (0 ≤ a1 ∧ a1 < 4)) (c_6 : ¬ (s.2 0 a1) = (-1)) (o_7 : (0 ≤ a3 ∧ a3 < 4)) (c_8 : (s.2 0 a3) = (-1)) : (-6) = (rPaste (s.2 0) (s.2 1) a1 a2 a3 a4 a5) := by
  obtain ⟨hw, b2, b4, b5⟩ := hp
  (try simp only [bI_0, bI_n, Classical.not_not, jgt, jle] at *)
  (try (have hq := hI.2.2.1; unfold psOK at hq))
  (try have hr1 := hw a1 (by omega) (by omega))
  (try have hr2 := hw a3 (by omega) (by omega))
  (try rw [i64_id (x := a2 + a5) (by omega) (by omega)] at c_13)
  (try rw [i64_id (x := a4 + a5) (by omega) (by omega)] at c_14)
  (try unfold lex3)
  (try simp only [bI_0, bI_n, Classical.not_not] at *)
  (try simp (disch := omega) only [i32_id] at *)
  first | done | omega | ((repeat' (with_reducible apply And.intro)) <;> first | assumption | rfl | omega | (exact hI.1) | (exact hI.2.2.1) | (exact hI.2.2.2.2.1) | (exact hI.2.2.2.2.2) | (exact (psC_n (fun q => absurd q.1.1 (by assumption))).symm) | (exact (psC_n (fun q => absurd q.1.2 (by assumption))).symm) | (exact (psC_n (fun q => absurd q.2.1.1 (not_not_intro (by assumption)))).symm) | (exact (psC_n (fun q => absurd q.2.1.2 (not_not_intro (by assumption)))).symm) | (exact (psC_n (fun q => absurd q.2.2.1 (by assumption))).symm) | (exact (psC_n (fun q => absurd q.2.2.2 (by omega))).symm) | (rw [hI.2.2.2.2.1]; exact moveC_0 _ _ _ _) | (intro z h0 h1; exact hI.2.2.2.2.2 z h0 (by omega)) | (intro z h0 h1; omega) | (exact upto_s (p := fun z v => v = s.2 2 (60 * a1 + a2 + z)) hI.2.2.2.2.2 (by rw [hI.2.2.2.2.1, hI.2.1.1, hI.2.1.2.1])) | (rw [psC_y hI.2.2.1, hI.2.2.2.2.1, show x6 = a5 by omega]) | (rw [hI.2.2.2.2.1, hI.2.1.1, hI.2.1.2.1]; exact moveC_s (by omega) rfl (hI.2.2.2.2.2 x6 (by omega) (by omega))) | (exact ⟨⟨by omega, by omega⟩, ⟨by assumption, by assumption⟩, by assumption, by omega, by omega, by omega, by omega, by omega⟩) | (unfold psOK; omega) | (unfold rPaste; rw [if_neg (by omega)]) | (unfold rPaste; rw [if_pos (by omega), if_pos (by omega)]) | (unfold rPaste; rw [if_pos (by omega), if_neg (by omega), if_pos (by omega)]) | (unfold rPaste; rw [if_pos (by omega), if_neg (by omega), if_neg (by omega), if_pos (by omega)]) | (unfold rPaste; rw [if_pos (by omega), if_neg (by omega), if_neg (by omega), if_neg (by omega)]) | grind [upI])
theorem vX3_paste_35 (s : MS) (a1 : Int) (a2 : Int) (a3 : Int) (a4 : Int) (a5 : Int) (hp : rwOK (s.2 0) (s.2 1) ∧ (-2147483648 ≤ a2 ∧ a2 < 2147483648) ∧ (-2147483648 ≤ a4 ∧ a4 < 2147483648) ∧ (-2147483648 ≤ a5 ∧ a5 < 2147483648)) (c_2 : ¬ (bI (0 ≤ a1 ∧ a1 ≤ 3)) = 0) (c_4 : (bI (0 ≤ a3 ∧ a3 ≤ 3)) = 0) : (s.2 2) = (psC (s.2 0) (s.2 1) (s.2 2) a1 a2 a3 a4 a5) := by
  obtain ⟨hw, b2, b4, b5⟩ := hp
  (try simp only [bI_0, bI_n, Classical.not_not, jgt, jle] at *)
  (try (have hq := hI.2.2.1; unfold psOK at hq))
  (try have hr1 := hw a1 (by omega) (by omega))
  (try have hr2 := hw a3 (by omega) (by omega))
  (try rw [i64_id (x := a2 + a5) (by omega) (by omega)] at c_13)
  (try rw [i64_id (x := a4 + a5) (by omega) (by omega)] at c_14)
  (try unfold lex3)
  (try simp only [bI_0, bI_n, Classical.not_not] at *)
  (try simp (disch := omega) only [i32_id] at *)
  first | done | omega | ((repeat' (with_reducible apply And.intro)) <;> first | assumption | rfl | omega | (exact hI.1) | (exact hI.2.2.1) | (exact hI.2.2.2.2.1) | (exact hI.2.2.2.2.2) | (exact (psC_n (fun q => absurd q.1.1 (by assumption))).symm) | (exact (psC_n (fun q => absurd q.1.2 (by assumption))).symm) | (exact (psC_n (fun q => absurd q.2.1.1 (not_not_intro (by assumption)))).symm) | (exact (psC_n (fun q => absurd q.2.1.2 (not_not_intro (by assumption)))).symm) | (exact (psC_n (fun q => absurd q.2.2.1 (by assumption))).symm) | (exact (psC_n (fun q => absurd q.2.2.2 (by omega))).symm) | (rw [hI.2.2.2.2.1]; exact moveC_0 _ _ _ _) | (intro z h0 h1; exact hI.2.2.2.2.2 z h0 (by omega)) | (intro z h0 h1; omega) | (exact upto_s (p := fun z v => v = s.2 2 (60 * a1 + a2 + z)) hI.2.2.2.2.2 (by rw [hI.2.2.2.2.1, hI.2.1.1, hI.2.1.2.1])) | (rw [psC_y hI.2.2.1, hI.2.2.2.2.1, show x6 = a5 by omega]) | (rw [hI.2.2.2.2.1, hI.2.1.1, hI.2.1.2.1]; exact moveC_s (by omega) rfl (hI.2.2.2.2.2 x6 (by omega) (by omega))) | (exact ⟨⟨by omega, by omega⟩, ⟨by assumption, by assumption⟩, by assumption, by omega, by omega, by omega, by omega, by omega⟩) | (unfold psOK; omega) | (unfold rPaste; rw [if_neg (by omega)]) | (unfold rPaste; rw [if_pos (by omega), if_pos (by omega)]) | (unfold rPaste; rw [if_pos (by omega), if_neg (by omega), if_pos (by omega)]) | (unfold rPaste; rw [if_pos (by omega), if_neg (by omega), if_neg (by omega), if_pos (by omega)]) | (unfold rPaste; rw [if_pos (by omega), if_neg (by omega), if_neg (by omega), if_neg (by omega)]) | grind [upI])
theorem vX3_paste_36 (s : MS) (a1 : Int) (a2 : Int) (a3 : Int) (a4 : Int) (a5 : Int) (hp : rwOK (s.2 0) (s.2 1) ∧ (-2147483648 ≤ a2 ∧ a2 < 2147483648) ∧ (-2147483648 ≤ a4 ∧ a4 < 2147483648) ∧ (-2147483648 ≤ a5 ∧ a5 < 2147483648)) (c_2 : ¬ (bI (0 ≤ a1 ∧ a1 ≤ 3)) = 0) (c_4 : (bI (0 ≤ a3 ∧ a3 ≤ 3)) = 0) : (-2) = (rPaste (s.2 0) (s.2 1) a1 a2 a3 a4 a5) := by
  obtain ⟨hw, b2, b4, b5⟩ := hp
  (try simp only [bI_0, bI_n, Classical.not_not, jgt, jle] at *)
  (try (have hq := hI.2.2.1; unfold psOK at hq))
  (try have hr1 := hw a1 (by omega) (by omega))
  (try have hr2 := hw a3 (by omega) (by omega))
  (try rw [i64_id (x := a2 + a5) (by omega) (by omega)] at c_13)
  (try rw [i64_id (x := a4 + a5) (by omega) (by omega)] at c_14)
  (try unfold lex3)
  (try simp only [bI_0, bI_n, Classical.not_not] at *)
  (try simp (disch := omega) only [i32_id] at *)
  first | done | omega | ((repeat' (with_reducible apply And.intro)) <;> first | assumption | rfl | omega | (exact hI.1) | (exact hI.2.2.1) | (exact hI.2.2.2.2.1) | (exact hI.2.2.2.2.2) | (exact (psC_n (fun q => absurd q.1.1 (by assumption))).symm) | (exact (psC_n (fun q => absurd q.1.2 (by assumption))).symm) | (exact (psC_n (fun q => absurd q.2.1.1 (not_not_intro (by assumption)))).symm) | (exact (psC_n (fun q => absurd q.2.1.2 (not_not_intro (by assumption)))).symm) | (exact (psC_n (fun q => absurd q.2.2.1 (by assumption))).symm) | (exact (psC_n (fun q => absurd q.2.2.2 (by omega))).symm) | (rw [hI.2.2.2.2.1]; exact moveC_0 _ _ _ _) | (intro z h0 h1; exact hI.2.2.2.2.2 z h0 (by omega)) | (intro z h0 h1; omega) | (exact upto_s (p := fun z v => v = s.2 2 (60 * a1 + a2 + z)) hI.2.2.2.2.2 (by rw [hI.2.2.2.2.1, hI.2.1.1, hI.2.1.2.1])) | (rw [psC_y hI.2.2.1, hI.2.2.2.2.1, show x6 = a5 by omega]) | (rw [hI.2.2.2.2.1, hI.2.1.1, hI.2.1.2.1]; exact moveC_s (by omega) rfl (hI.2.2.2.2.2 x6 (by omega) (by omega))) | (exact ⟨⟨by omega, by omega⟩, ⟨by assumption, by assumption⟩, by assumption, by omega, by omega, by omega, by omega, by omega⟩) | (unfold psOK; omega) | (unfold rPaste; rw [if_neg (by omega)]) | (unfold rPaste; rw [if_pos (by omega), if_pos (by omega)]) | (unfold rPaste; rw [if_pos (by omega), if_neg (by omega), if_pos (by omega)]) | (unfold rPaste; rw [if_pos (by omega), if_neg (by omega), if_neg (by omega), if_pos (by omega)]) | (unfold rPaste; rw [if_pos (by omega), if_neg (by omega), if_neg (by omega), if_neg (by omega)]) | grind [upI])
theorem allX3_paste (b : AH) (s : MS) (a1 : Int) (a2 : Int) (a3 : Int) (a4 : Int) (a5 : Int) (hp : rwOK (s.2 0) (s.2 1) ∧ (-2147483648 ≤ a2 ∧ a2 < 2147483648) ∧ (-2147483648 ≤ a4 ∧ a4 < 2147483648) ∧ (-2147483648 ≤ a5 ∧ a5 < 2147483648)) : ∀ m1 m2 m3 : Nat, (∀ (x1 : Int) (x2 : Int) (x3 : Int) (x4 : Int) (x5 : Int) (x6 : Int) (f2 : Int → Int) (f3 : Int → Int) (k0 : Int), m1 = 0 → m2 = 1 → m3 = ((a5 - x6).toNat) → (k0 = 0 ∧ (x1 = a1 ∧ x2 = a2 ∧ x3 = a3 ∧ x4 = a4 ∧ x5 = a5) ∧ psOK (s.2 0) (s.2 1) a1 a2 a3 a4 a5 ∧ (0 ≤ x6 ∧ x6 ≤ a5) ∧ f2 = s.2 2 ∧ ∀ z : Int, 0 ≤ z → z < x6 → f3 z = s.2 2 (60 * a1 + a2 + z)) → HX3_paste_118 (QX3_paste s a1 a2 a3 a4 a5) b s x1 x2 x3 x4 x5 x6 f2 f3 k0) ∧ (∀ (x3 : Int) (x4 : Int) (x5 : Int) (x6 : Int) (f2 : Int → Int) (f3 : Int → Int) (k0 : Int), m1 = 0 → m2 = 0 → m3 = ((a5 - x6).toNat) → (k0 = 0 ∧ (x3 = a3 ∧ x4 = a4 ∧ x5 = a5) ∧ psOK (s.2 0) (s.2 1) a1 a2 a3 a4 a5 ∧ (0 ≤ x6 ∧ x6 ≤ a5) ∧ f2 = moveC (s.2 2) (s.2 2) (60 * a1 + a2) (60 * a3 + a4) x6 ∧ ∀ z : Int, 0 ≤ z → z < a5 → f3 z = s.2 2 (60 * a1 + a2 + z)) → HX3_paste_155 (QX3_paste s a1 a2 a3 a4 a5) b s x3 x4 x5 x6 f2 f3 k0) := by
  refine lex3_ind ?_
  intro m1 m2 m3 ih
  refine ⟨?_, ?_⟩
  · rintro x1 x2 x3 x4 x5 x6 f2 f3 k0 rfl rfl rfl hI
    refine bX3_paste_118 b s x1 x2 x3 x4 x5 x6 f2 f3 k0 ?_
    refine ⟨fun c_1 => ?_, fun c_1 => ?_⟩
    · exact (ih _ _ _ (vX3_paste_2 s a1 a2 a3 a4 a5 hp x1 x2 x3 x4 x5 x6 f2 f3 k0 hI c_1)).2 x3 x4 x5 0 f2 f3 k0 rfl rfl rfl (vX3_paste_1 s a1 a2 a3 a4 a5 hp x1 x2 x3 x4 x5 x6 f2 f3 k0 hI c_1)
    · have o_2 : (0 ≤ (i32 ((i32 ((i32 (60 * x1)) + x2)) + x6)) ∧ (i32 ((i32 ((i32 (60 * x1)) + x2)) + x6)) < 240) := (vX3_paste_3 s a1 a2 a3 a4 a5 hp x1 x2 x3 x4 x5 x6 f2 f3 k0 hI c_1)
      refine ⟨o_2, ?_⟩
      have o_3 : (0 ≤ x6 ∧ x6 < 60) := (vX3_paste_4 s a1 a2 a3 a4 a5 hp x1 x2 x3 x4 x5 x6 f2 f3 k0 hI c_1 o_2)
      refine ⟨o_3, ?_⟩
      exact (ih _ _ _ (vX3_paste_6 s a1 a2 a3 a4 a5 hp x1 x2 x3 x4 x5 x6 f2 f3 k0 hI c_1 o_2 o_3)).1 x1 x2 x3 x4 x5 (i32 (x6 + 1)) f2 (upI f3 x6 (f2 (i32 ((i32 ((i32 (60 * x1)) + x2)) + x6)))) k0 rfl rfl rfl (vX3_paste_5 s a1 a2 a3 a4 a5 hp x1 x2 x3 x4 x5 x6 f2 f3 k0 hI c_1 o_2 o_3)
  · rintro x3 x4 x5 x6 f2 f3 k0 rfl rfl rfl hI
    refine bX3_paste_155 b s x3 x4 x5 x6 f2 f3 k0 ?_
    refine ⟨fun c_1 => ?_, fun c_1 => ?_⟩
    · exact ⟨f3, (rI_c (vX3_paste_9 s a1 a2 a3 a4 a5 hp x3 x4 x5 x6 f2 f3 k0 hI c_1)), (sS_c (sA_c (sA_c rfl (vX3_paste_7 s a1 a2 a3 a4 a5 hp x3 x4 x5 x6 f2 f3 k0 hI c_1)) rfl) (vX3_paste_8 s a1 a2 a3 a4 a5 hp x3 x4 x5 x6 f2 f3 k0 hI c_1))⟩
    · have o_2 : (0 ≤ x6 ∧ x6 < 60) := (vX3_paste_10 s a1 a2 a3 a4 a5 hp x3 x4 x5 x6 f2 f3 k0 hI c_1)
      refine ⟨o_2, ?_⟩
      have o_3 : (0 ≤ (i32 ((i32 ((i32 (60 * x3)) + x4)) + x6)) ∧ (i32 ((i32 ((i32 (60 * x3)) + x4)) + x6)) < 240) := (vX3_paste_11 s a1 a2 a3 a4 a5 hp x3 x4 x5 x6 f2 f3 k0 hI c_1 o_2)
      refine ⟨o_3, ?_⟩
      exact (ih _ _ _ (vX3_paste_13 s a1 a2 a3 a4 a5 hp x3 x4 x5 x6 f2 f3 k0 hI c_1 o_2 o_3)).2 x3 x4 x5 (i32 (x6 + 1)) (upI f2 (i32 ((i32 ((i32 (60 * x3)) + x4)) + x6)) (f3 x6)) f3 k0 rfl rfl rfl (vX3_paste_12 s a1 a2 a3 a4 a5 hp x3 x4 x5 x6 f2 f3 k0 hI c_1 o_2 o_3)
theorem ctX3_paste (b : AH) (s : MS) (a1 : Int) (a2 : Int) (a3 : Int) (a4 : Int) (a5 : Int) (hp : rwOK (s.2 0) (s.2 1) ∧ (-2147483648 ≤ a2 ∧ a2 < 2147483648) ∧ (-2147483648 ≤ a4 ∧ a4 < 2147483648) ∧ (-2147483648 ≤ a5 ∧ a5 < 2147483648)) : MC mX3_paste 3 b s [vI a1, vI a2, vI a3, vI a4, vI a5] (QX3_paste s a1 a2 a3 a4 a5) := by
  refine MC.of (by decide) rfl (Nat.le_of_ble_eq_true rfl) (JW.steq (s2 := sS (sA (sA s 2 (s.2 2)) 3 (s.2 3)) 0 (s.1 0)) (by simp only [sA_id, sS_id]) ?_)
  refine bX3_paste_0 b s a1 a2 a3 a4 a5 (s.2 2) (s.2 3) (s.1 0) ?_
  refine ⟨fun c_2 => ?_, fun c_2 => ?_⟩
  · exact ⟨(s.2 3), (rI_c (vX3_paste_15 s a1 a2 a3 a4 a5 hp c_2)), (sS_c (sA_c (sA_c rfl (vX3_paste_14 s a1 a2 a3 a4 a5 hp c_2)) rfl) rfl)⟩
  · refine ⟨fun c_4 => ?_, fun c_4 => ?_⟩
    · have o_5 : (0 ≤ a1 ∧ a1 < 4) := (vX3_paste_16 s a1 a2 a3 a4 a5 hp c_2 c_4)
      refine ⟨o_5, ?_⟩
      refine ⟨fun c_6 => ?_, fun c_6 => ?_⟩
      · exact ⟨(s.2 3), (rI_c (vX3_paste_18 s a1 a2 a3 a4 a5 hp c_2 c_4 o_5 c_6)), (sS_c (sA_c (sA_c rfl (vX3_paste_17 s a1 a2 a3 a4 a5 hp c_2 c_4 o_5 c_6)) rfl) rfl)⟩
      · have o_7 : (0 ≤ a3 ∧ a3 < 4) := (vX3_paste_19 s a1 a2 a3 a4 a5 hp c_2 c_4 o_5 c_6)
        refine ⟨o_7, ?_⟩
        refine ⟨fun c_8 => ?_, fun c_8 => ?_⟩
        · refine ⟨fun c_9 => ?_, fun c_9 => ?_⟩
          · refine ⟨fun c_10 => ?_, fun c_10 => ?_⟩
            · exact ⟨(s.2 3), (rI_c (vX3_paste_21 s a1 a2 a3 a4 a5 hp c_2 c_4 o_5 c_6 o_7 c_8 c_9 c_10)), (sS_c (sA_c (sA_c rfl (vX3_paste_20 s a1 a2 a3 a4 a5 hp c_2 c_4 o_5 c_6 o_7 c_8 c_9 c_10)) rfl) rfl)⟩
            · refine ⟨fun c_11 => ?_, fun c_11 => ?_⟩
              · exact ⟨(s.2 3), (rI_c (vX3_paste_23 s a1 a2 a3 a4 a5 hp c_2 c_4 o_5 c_6 o_7 c_8 c_9 c_10 c_11)), (sS_c (sA_c (sA_c rfl (vX3_paste_22 s a1 a2 a3 a4 a5 hp c_2 c_4 o_5 c_6 o_7 c_8 c_9 c_10 c_11)) rfl) rfl)⟩
              · refine ⟨fun c_12 => ?_, fun c_12 => ?_⟩
                · exact ⟨(s.2 3), (rI_c (vX3_paste_25 s a1 a2 a3 a4 a5 hp c_2 c_4 o_5 c_6 o_7 c_8 c_9 c_10 c_11 c_12)), (sS_c (sA_c (sA_c rfl (vX3_paste_24 s a1 a2 a3 a4 a5 hp c_2 c_4 o_5 c_6 o_7 c_8 c_9 c_10 c_11 c_12)) rfl) rfl)⟩
                · refine ⟨fun c_13 => ?_, fun c_13 => ?_⟩
                  · exact ⟨(s.2 3), (rI_c (vX3_paste_27 s a1 a2 a3 a4 a5 hp c_2 c_4 o_5 c_6 o_7 c_8 c_9 c_10 c_11 c_12 c_13)), (sS_c (sA_c (sA_c rfl (vX3_paste_26 s a1 a2 a3 a4 a5 hp c_2 c_4 o_5 c_6 o_7 c_8 c_9 c_10 c_11 c_12 c_13)) rfl) rfl)⟩
                  · refine ⟨fun c_14 => ?_, fun c_14 => ?_⟩
                    · exact (allX3_paste b s a1 a2 a3 a4 a5 hp _ _ _).1 a1 a2 a3 a4 a5 0 (s.2 2) (s.2 3) 0 rfl rfl rfl (vX3_paste_28 s a1 a2 a3 a4 a5 hp c_2 c_4 o_5 c_6 o_7 c_8 c_9 c_10 c_11 c_12 c_13 c_14)
                    · exact ⟨(s.2 3), (rI_c (vX3_paste_30 s a1 a2 a3 a4 a5 hp c_2 c_4 o_5 c_6 o_7 c_8 c_9 c_10 c_11 c_12 c_13 c_14)), (sS_c (sA_c (sA_c rfl (vX3_paste_29 s a1 a2 a3 a4 a5 hp c_2 c_4 o_5 c_6 o_7 c_8 c_9 c_10 c_11 c_12 c_13 c_14)) rfl) rfl)⟩
          · exact ⟨(s.2 3), (rI_c (vX3_paste_32 s a1 a2 a3 a4 a5 hp c_2 c_4 o_5 c_6 o_7 c_8 c_9)), (sS_c (sA_c (sA_c rfl (vX3_paste_31 s a1 a2 a3 a4 a5 hp c_2 c_4 o_5 c_6 o_7 c_8 c_9)) rfl) rfl)⟩
        · exact ⟨(s.2 3), (rI_c (vX3_paste_34 s a1 a2 a3 a4 a5 hp c_2 c_4 o_5 c_6 o_7 c_8)), (sS_c (sA_c (sA_c rfl (vX3_paste_33 s a1 a2 a3 a4 a5 hp c_2 c_4 o_5 c_6 o_7 c_8)) rfl) rfl)⟩
    · exact ⟨(s.2 3), (rI_c (vX3_paste_36 s a1 a2 a3 a4 a5 hp c_2 c_4)), (sS_c (sA_c (sA_c rfl (vX3_paste_35 s a1 a2 a3 a4 a5 hp c_2 c_4)) rfl) rfl)⟩
def HX3_copyRow_5_0 (Q : Option AV → MS → Prop) (b : AH) (s : MS) (x1 : Int) (x2 : Int) (x3 : Int) (f5 : Int → Int) : Prop := MW mX3_copyRow 1 Q b 0 [(0, vR 357), (1, vI x1), (2, vI x2), (3, vI x3)] [] (sA s 5 f5)
def HX3_copyRow_5_3 (Q : Option AV → MS → Prop) (b : AH) (s : MS) (x1 : Int) (x2 : Int) (x3 : Int) (x4 : Int) (f5 : Int → Int) : Prop := MW mX3_copyRow 1 Q b 3 [(0, vR 357), (1, vI x1), (2, vI x2), (3, vI x3), (4, vI x4)] [] (sA s 5 f5)
theorem bX3_copyRow_5_0 {Q : Option AV → MS → Prop} (b : AH) (s : MS) (x1 : Int) (x2 : Int) (x3 : Int) (f5 : Int → Int) (K : HX3_copyRow_5_3 Q b s x1 x2 x3 0 f5) : HX3_copyRow_5_0 Q b s x1 x2 x3 f5 := by
  refine JW.iconst dX3_copyRow_0 rfl ?_
  refine JW.istore (ls' := [(0, vR 357), (1, vI x1), (2, vI x2), (3, vI x3), (4, vI 0)]) dX3_copyRow_1 (Nat.le_of_ble_eq_true rfl) rfl ?_
  exact JW.pick [0, 1, 2, 3, 4] rfl K
theorem bX3_copyRow_5_3 {Q : Option AV → MS → Prop} (b : AH) (s : MS) (x1 : Int) (x2 : Int) (x3 : Int) (x4 : Int) (f5 : Int → Int) (K : (x1 ≤ x4 → Q none (sA s 5 f5)) ∧ (¬ x1 ≤ x4 → (0 ≤ (i32 ((i32 (x1 * x2)) + x4)) ∧ (i32 ((i32 (x1 * x2)) + x4)) < 5) ∧ ((0 ≤ (i32 ((i32 (x1 * x3)) + x4)) ∧ (i32 ((i32 (x1 * x3)) + x4)) < 5) ∧ (HX3_copyRow_5_3 Q b s x1 x2 x3 (i32 (x4 + 1)) (upI f5 (i32 ((i32 (x1 * x3)) + x4)) (f5 (i32 ((i32 (x1 * x2)) + x4)))))))) : HX3_copyRow_5_3 Q b s x1 x2 x3 x4 f5 := by
  refine JW.iload dX3_copyRow_3 rfl ?_
  refine JW.iload_n dX3_copyRow_5 rfl ?_
  refine JW.icmp_ge (tgt := 31) dX3_copyRow_6 rfl (fun c_1 => ?_) (fun c_1 => ?_)
  · have K := K.1 c_1
    exact JW.vreturn dX3_copyRow_31 rfl ⟨_, rfl, K⟩
  · have K := K.2 c_1
    refine JW.aload_n dX3_copyRow_9 rfl ?_
    refine JW.iload_n dX3_copyRow_10 rfl ?_
    refine JW.iload_n dX3_copyRow_11 rfl ?_
    refine JW.imul dX3_copyRow_12 ?_
    refine JW.iload dX3_copyRow_13 rfl ?_
    refine JW.iadd dX3_copyRow_15 ?_
    refine JW.aload_n dX3_copyRow_16 rfl ?_
    refine JW.iload_n dX3_copyRow_17 rfl ?_
    refine JW.iload_n dX3_copyRow_18 rfl ?_
    refine JW.imul dX3_copyRow_19 ?_
    refine JW.iload dX3_copyRow_20 rfl ?_
    refine JW.iadd dX3_copyRow_22 ?_
    obtain ⟨o_2, K⟩ := K
    refine JW.mald 5 (x := (f5 (i32 ((i32 (x1 * x2)) + x4)))) dX3_copyRow_23 (Nat.le_of_ble_eq_true rfl) rfl o_2.1 o_2.2 rfl ?_
    obtain ⟨o_3, K⟩ := K
    refine JW.mast 5 (f := f5) dX3_copyRow_24 (Nat.le_of_ble_eq_true rfl) rfl o_3.1 o_3.2 rfl ?_
    refine JW.steq (s2 := sA s 5 (upI f5 (i32 ((i32 (x1 * x3)) + x4)) (f5 (i32 ((i32 (x1 * x2)) + x4))))) (by simp only [sA_A, sS_S, sA_S, sA_lt, sS_lt, Nat.reduceLT, id_eq] <;> rfl) ?_
    refine JW.iinc (ls' := [(0, vR 357), (1, vI x1), (2, vI x2), (3, vI x3), (4, vI (i32 (x4 + 1)))]) dX3_copyRow_25 (Nat.le_of_ble_eq_true rfl) rfl rfl ?_
    refine JW.goto (tgt := 3) dX3_copyRow_28 rfl ?_
    exact JW.pick [0, 1, 2, 3, 4] rfl K
def QX3_copyRow_5 (s : MS) (a2 : Int) (a3 : Int) (a4 : Int) : Option AV → MS → Prop := fun v s' => v = none ∧ s' = sA s 5 (cpT 1 a3 a4 (s.2 5))
theorem vX3_copyRow_5_1 (s : MS) (a2 : Int) (a3 : Int) (a4 : Int) (hp : a2 = 1 ∧ (0 ≤ a3 ∧ a3 ≤ 4) ∧ (0 ≤ a4 ∧ a4 ≤ 4) ∧ a3 ≠ a4) (x1 : Int) (x2 : Int) (x3 : Int) (x4 : Int) (f5 : Int → Int) (hI : x1 = 1 ∧ x2 = a3 ∧ x3 = a4 ∧ (0 ≤ x4 ∧ x4 ≤ 1) ∧ f5 = moveC (s.2 5) (s.2 5) (1 * a3) (1 * a4) x4) (c_1 : x1 ≤ x4) : f5 = (cpT 1 a3 a4 (s.2 5)) := by
  obtain ⟨h2, h3, h4, h5⟩ := hp
  (try (have g1 := hI.1; have g2 := hI.2.1; have g3 := hI.2.2.1; have g4 := hI.2.2.2.1; have g5 := hI.2.2.2.2; clear hI; subst x1; subst x2; subst x3))
  (try simp (disch := omega) only [i32_id] at *)
  (try have hv := moveC_at (c := s.2 5) (d := s.2 5) (p := 1 * a3) (q := 1 * a4) (n := x4) (z := 1 * a3 + x4) (by omega))
  (try unfold lex3)
  (try simp only [bI_0, bI_n, Classical.not_not] at *)
  (try simp (disch := omega) only [i32_id] at *)
  first | done | omega | ((repeat' (with_reducible apply And.intro)) <;> first | assumption | rfl | omega | (rw [g5, show x4 = 1 by omega]; rfl) | (rw [g5, hv]; exact moveC_s (by omega) rfl rfl) | (exact moveC_0 _ _ _ _) | grind [upI])
theorem vX3_copyRow_5_2 (s : MS) (a2 : Int) (a3 : Int) (a4 : Int) (hp : a2 = 1 ∧ (0 ≤ a3 ∧ a3 ≤ 4) ∧ (0 ≤ a4 ∧ a4 ≤ 4) ∧ a3 ≠ a4) (x1 : Int) (x2 : Int) (x3 : Int) (x4 : Int) (f5 : Int → Int) (hI : x1 = 1 ∧ x2 = a3 ∧ x3 = a4 ∧ (0 ≤ x4 ∧ x4 ≤ 1) ∧ f5 = moveC (s.2 5) (s.2 5) (1 * a3) (1 * a4) x4) (c_1 : ¬ x1 ≤ x4) : (0 ≤ (i32 ((i32 (x1 * x2)) + x4)) ∧ (i32 ((i32 (x1 * x2)) + x4)) < 5) := by
  obtain ⟨h2, h3, h4, h5⟩ := hp
  (try (have g1 := hI.1; have g2 := hI.2.1; have g3 := hI.2.2.1; have g4 := hI.2.2.2.1; have g5 := hI.2.2.2.2; clear hI; subst x1; subst x2; subst x3))
  (try simp (disch := omega) only [i32_id] at *)
  (try have hv := moveC_at (c := s.2 5) (d := s.2 5) (p := 1 * a3) (q := 1 * a4) (n := x4) (z := 1 * a3 + x4) (by omega))
  (try unfold lex3)
  (try simp only [bI_0, bI_n, Classical.not_not] at *)
  (try simp (disch := omega) only [i32_id] at *)
  first | done | omega | ((repeat' (with_reducible apply And.intro)) <;> first | assumption | rfl | omega | (rw [g5, show x4 = 1 by omega]; rfl) | (rw [g5, hv]; exact moveC_s (by omega) rfl rfl) | (exact moveC_0 _ _ _ _) | grind [upI])
theorem vX3_copyRow_5_3 (s : MS) (a2 : Int) (a3 : Int) (a4 : Int) (hp : a2 = 1 ∧ (0 ≤ a3 ∧ a3 ≤ 4) ∧ (0 ≤ a4 ∧ a4 ≤ 4) ∧ a3 ≠ a4) (x1 : Int) (x2 : Int) (x3 : Int) (x4 : Int) (f5 : Int → Int) (hI : x1 = 1 ∧ x2 = a3 ∧ x3 = a4 ∧ (0 ≤ x4 ∧ x4 ≤ 1) ∧ f5 = moveC (s.2 5) (s.2 5) (1 * a3) (1 * a4) x4) (c_1 : ¬ x1 ≤ x4) (o_2 : (0 ≤ (i32 ((i32 (x1 * x2)) + x4)) ∧ (i32 ((i32 (x1 * x2)) + x4)) < 5)) : (0 ≤ (i32 ((i32 (x1 * x3)) + x4)) ∧ (i32 ((i32 (x1 * x3)) + x4)) < 5) := by
  obtain ⟨h2, h3, h4, h5⟩ := hp
  (try (have g1 := hI.1; have g2 := hI.2.1; have g3 := hI.2.2.1; have g4 := hI.2.2.2.1; have g5 := hI.2.2.2.2; clear hI; subst x1; subst x2; subst x3))
  (try simp (disch := omega) only [i32_id] at *)
  (try have hv := moveC_at (c := s.2 5) (d := s.2 5) (p := 1 * a3) (q := 1 * a4) (n := x4) (z := 1 * a3 + x4) (by omega))
  (try unfold lex3)
  (try simp only [bI_0, bI_n, Classical.not_not] at *)
  (try simp (disch := omega) only [i32_id] at *)
  first | done | omega | ((repeat' (with_reducible apply And.intro)) <;> first | assumption | rfl | omega | (rw [g5, show x4 = 1 by omega]; rfl) | (rw [g5, hv]; exact moveC_s (by omega) rfl rfl) | (exact moveC_0 _ _ _ _) | grind [upI])
theorem vX3_copyRow_5_4 (s : MS) (a2 : Int) (a3 : Int) (a4 : Int) (hp : a2 = 1 ∧ (0 ≤ a3 ∧ a3 ≤ 4) ∧ (0 ≤ a4 ∧ a4 ≤ 4) ∧ a3 ≠ a4) (x1 : Int) (x2 : Int) (x3 : Int) (x4 : Int) (f5 : Int → Int) (hI : x1 = 1 ∧ x2 = a3 ∧ x3 = a4 ∧ (0 ≤ x4 ∧ x4 ≤ 1) ∧ f5 = moveC (s.2 5) (s.2 5) (1 * a3) (1 * a4) x4) (c_1 : ¬ x1 ≤ x4) (o_2 : (0 ≤ (i32 ((i32 (x1 * x2)) + x4)) ∧ (i32 ((i32 (x1 * x2)) + x4)) < 5)) (o_3 : (0 ≤ (i32 ((i32 (x1 * x3)) + x4)) ∧ (i32 ((i32 (x1 * x3)) + x4)) < 5)) : x1 = 1 ∧ x2 = a3 ∧ x3 = a4 ∧ (0 ≤ (i32 (x4 + 1)) ∧ (i32 (x4 + 1)) ≤ 1) ∧ (upI f5 (i32 ((i32 (x1 * x3)) + x4)) (f5 (i32 ((i32 (x1 * x2)) + x4)))) = moveC (s.2 5) (s.2 5) (1 * a3) (1 * a4) (i32 (x4 + 1)) := by
  obtain ⟨h2, h3, h4, h5⟩ := hp
  (try (have g1 := hI.1; have g2 := hI.2.1; have g3 := hI.2.2.1; have g4 := hI.2.2.2.1; have g5 := hI.2.2.2.2; clear hI; subst x1; subst x2; subst x3))
  (try simp (disch := omega) only [i32_id] at *)
  (try have hv := moveC_at (c := s.2 5) (d := s.2 5) (p := 1 * a3) (q := 1 * a4) (n := x4) (z := 1 * a3 + x4) (by omega))
  (try unfold lex3)
  (try simp only [bI_0, bI_n, Classical.not_not] at *)
  (try simp (disch := omega) only [i32_id] at *)
  first | done | omega | ((repeat' (with_reducible apply And.intro)) <;> first | assumption | rfl | omega | (rw [g5, show x4 = 1 by omega]; rfl) | (rw [g5, hv]; exact moveC_s (by omega) rfl rfl) | (exact moveC_0 _ _ _ _) | grind [upI])
theorem vX3_copyRow_5_5 (s : MS) (a2 : Int) (a3 : Int) (a4 : Int) (hp : a2 = 1 ∧ (0 ≤ a3 ∧ a3 ≤ 4) ∧ (0 ≤ a4 ∧ a4 ≤ 4) ∧ a3 ≠ a4) (x1 : Int) (x2 : Int) (x3 : Int) (x4 : Int) (f5 : Int → Int) (hI : x1 = 1 ∧ x2 = a3 ∧ x3 = a4 ∧ (0 ≤ x4 ∧ x4 ≤ 1) ∧ f5 = moveC (s.2 5) (s.2 5) (1 * a3) (1 * a4) x4) (c_1 : ¬ x1 ≤ x4) (o_2 : (0 ≤ (i32 ((i32 (x1 * x2)) + x4)) ∧ (i32 ((i32 (x1 * x2)) + x4)) < 5)) (o_3 : (0 ≤ (i32 ((i32 (x1 * x3)) + x4)) ∧ (i32 ((i32 (x1 * x3)) + x4)) < 5)) : lex3 0 0 ((1 - (i32 (x4 + 1))).toNat) 0 0 ((1 - x4).toNat) := by
  obtain ⟨h2, h3, h4, h5⟩ := hp
  (try (have g1 := hI.1; have g2 := hI.2.1; have g3 := hI.2.2.1; have g4 := hI.2.2.2.1; have g5 := hI.2.2.2.2; clear hI; subst x1; subst x2; subst x3))
  (try simp (disch := omega) only [i32_id] at *)
  (try have hv := moveC_at (c := s.2 5) (d := s.2 5) (p := 1 * a3) (q := 1 * a4) (n := x4) (z := 1 * a3 + x4) (by omega))
  (try unfold lex3)
  (try simp only [bI_0, bI_n, Classical.not_not] at *)
  (try simp (disch := omega) only [i32_id] at *)
  first | done | omega | ((repeat' (with_reducible apply And.intro)) <;> first | assumption | rfl | omega | (rw [g5, show x4 = 1 by omega]; rfl) | (rw [g5, hv]; exact moveC_s (by omega) rfl rfl) | (exact moveC_0 _ _ _ _) | grind [upI])
theorem vX3_copyRow_5_6 (s : MS) (a2 : Int) (a3 : Int) (a4 : Int) (hp : a2 = 1 ∧ (0 ≤ a3 ∧ a3 ≤ 4) ∧ (0 ≤ a4 ∧ a4 ≤ 4) ∧ a3 ≠ a4) : a2 = 1 ∧ a3 = a3 ∧ a4 = a4 ∧ (0 ≤ (0 : Int) ∧ (0 : Int) ≤ 1) ∧ (s.2 5) = moveC (s.2 5) (s.2 5) (1 * a3) (1 * a4) (0 : Int) := by
  obtain ⟨h2, h3, h4, h5⟩ := hp
  (try (have g1 := hI.1; have g2 := hI.2.1; have g3 := hI.2.2.1; have g4 := hI.2.2.2.1; have g5 := hI.2.2.2.2; clear hI; subst x1; subst x2; subst x3))
  (try simp (disch := omega) only [i32_id] at *)
  (try have hv := moveC_at (c := s.2 5) (d := s.2 5) (p := 1 * a3) (q := 1 * a4) (n := x4) (z := 1 * a3 + x4) (by omega))
  (try unfold lex3)
  (try simp only [bI_0, bI_n, Classical.not_not] at *)
  (try simp (disch := omega) only [i32_id] at *)
  first | done | omega | ((repeat' (with_reducible apply And.intro)) <;> first | assumption | rfl | omega | (rw [g5, show x4 = 1 by omega]; rfl) | (rw [g5, hv]; exact moveC_s (by omega) rfl rfl) | (exact moveC_0 _ _ _ _) | grind [upI])
theorem allX3_copyRow_5 (b : AH) (s : MS) (a2 : Int) (a3 : Int) (a4 : Int) (hp : a2 = 1 ∧ (0 ≤ a3 ∧ a3 ≤ 4) ∧ (0 ≤ a4 ∧ a4 ≤ 4) ∧ a3 ≠ a4) : ∀ m1 m2 m3 : Nat, (∀ (x1 : Int) (x2 : Int) (x3 : Int) (x4 : Int) (f5 : Int → Int), m1 = 0 → m2 = 0 → m3 = ((1 - x4).toNat) → (x1 = 1 ∧ x2 = a3 ∧ x3 = a4 ∧ (0 ≤ x4 ∧ x4 ≤ 1) ∧ f5 = moveC (s.2 5) (s.2 5) (1 * a3) (1 * a4) x4) → HX3_copyRow_5_3 (QX3_copyRow_5 s a2 a3 a4) b s x1 x2 x3 x4 f5) := by
  refine lex3_ind ?_
  intro m1 m2 m3 ih
  rintro x1 x2 x3 x4 f5 rfl rfl rfl hI
  refine bX3_copyRow_5_3 b s x1 x2 x3 x4 f5 ?_
  refine ⟨fun c_1 => ?_, fun c_1 => ?_⟩
  · exact ⟨rfl, (sA_c rfl (vX3_copyRow_5_1 s a2 a3 a4 hp x1 x2 x3 x4 f5 hI c_1))⟩
  · have o_2 : (0 ≤ (i32 ((i32 (x1 * x2)) + x4)) ∧ (i32 ((i32 (x1 * x2)) + x4)) < 5) := (vX3_copyRow_5_2 s a2 a3 a4 hp x1 x2 x3 x4 f5 hI c_1)
    refine ⟨o_2, ?_⟩
    have o_3 : (0 ≤ (i32 ((i32 (x1 * x3)) + x4)) ∧ (i32 ((i32 (x1 * x3)) + x4)) < 5) := (vX3_copyRow_5_3 s a2 a3 a4 hp x1 x2 x3 x4 f5 hI c_1 o_2)
    refine ⟨o_3, ?_⟩
    exact (ih _ _ _ (vX3_copyRow_5_5 s a2 a3 a4 hp x1 x2 x3 x4 f5 hI c_1 o_2 o_3)) x1 x2 x3 (i32 (x4 + 1)) (upI f5 (i32 ((i32 (x1 * x3)) + x4)) (f5 (i32 ((i32 (x1 * x2)) + x4)))) rfl rfl rfl (vX3_copyRow_5_4 s a2 a3 a4 hp x1 x2 x3 x4 f5 hI c_1 o_2 o_3)
theorem ctX3_copyRow_5 (b : AH) (s : MS) (a2 : Int) (a3 : Int) (a4 : Int) (hp : a2 = 1 ∧ (0 ≤ a3 ∧ a3 ≤ 4) ∧ (0 ≤ a4 ∧ a4 ≤ 4) ∧ a3 ≠ a4) : MCS mX3_copyRow 1 b s [vR 357, vI a2, vI a3, vI a4] (QX3_copyRow_5 s a2 a3 a4) := by
  refine MCS.of (by decide) rfl (Nat.le_of_ble_eq_true rfl) (JW.steq (s2 := sA s 5 (s.2 5)) (by simp only [sA_id, sS_id]) ?_)
  refine bX3_copyRow_5_0 b s a2 a3 a4 (s.2 5) ?_
  exact (allX3_copyRow_5 b s a2 a3 a4 hp _ _ _) a2 a3 a4 0 (s.2 5) rfl rfl rfl (vX3_copyRow_5_6 s a2 a3 a4 hp)
def HX3_copyRow_6_0 (Q : Option AV → MS → Prop) (b : AH) (s : MS) (x1 : Int) (x2 : Int) (x3 : Int) (f6 : Int → Int) : Prop := MW mX3_copyRow 1 Q b 0 [(0, vR 358), (1, vI x1), (2, vI x2), (3, vI x3)] [] (sA s 6 f6)
def HX3_copyRow_6_3 (Q : Option AV → MS → Prop) (b : AH) (s : MS) (x1 : Int) (x2 : Int) (x3 : Int) (x4 : Int) (f6 : Int → Int) : Prop := MW mX3_copyRow 1 Q b 3 [(0, vR 358), (1, vI x1), (2, vI x2), (3, vI x3), (4, vI x4)] [] (sA s 6 f6)
theorem bX3_copyRow_6_0 {Q : Option AV → MS → Prop} (b : AH) (s : MS) (x1 : Int) (x2 : Int) (x3 : Int) (f6 : Int → Int) (K : HX3_copyRow_6_3 Q b s x1 x2 x3 0 f6) : HX3_copyRow_6_0 Q b s x1 x2 x3 f6 := by
  refine JW.iconst dX3_copyRow_0 rfl ?_
  refine JW.istore (ls' := [(0, vR 358), (1, vI x1), (2, vI x2), (3, vI x3), (4, vI 0)]) dX3_copyRow_1 (Nat.le_of_ble_eq_true rfl) rfl ?_
  exact JW.pick [0, 1, 2, 3, 4] rfl K
theorem bX3_copyRow_6_3 {Q : Option AV → MS → Prop} (b : AH) (s : MS) (x1 : Int) (x2 : Int) (x3 : Int) (x4 : Int) (f6 : Int → Int) (K : (x1 ≤ x4 → Q none (sA s 6 f6)) ∧ (¬ x1 ≤ x4 → (0 ≤ (i32 ((i32 (x1 * x2)) + x4)) ∧ (i32 ((i32 (x1 * x2)) + x4)) < 30) ∧ ((0 ≤ (i32 ((i32 (x1 * x3)) + x4)) ∧ (i32 ((i32 (x1 * x3)) + x4)) < 30) ∧ (HX3_copyRow_6_3 Q b s x1 x2 x3 (i32 (x4 + 1)) (upI f6 (i32 ((i32 (x1 * x3)) + x4)) (f6 (i32 ((i32 (x1 * x2)) + x4)))))))) : HX3_copyRow_6_3 Q b s x1 x2 x3 x4 f6 := by
  refine JW.iload dX3_copyRow_3 rfl ?_
  refine JW.iload_n dX3_copyRow_5 rfl ?_
  refine JW.icmp_ge (tgt := 31) dX3_copyRow_6 rfl (fun c_1 => ?_) (fun c_1 => ?_)
  · have K := K.1 c_1
    exact JW.vreturn dX3_copyRow_31 rfl ⟨_, rfl, K⟩
  · have K := K.2 c_1
    refine JW.aload_n dX3_copyRow_9 rfl ?_
    refine JW.iload_n dX3_copyRow_10 rfl ?_
    refine JW.iload_n dX3_copyRow_11 rfl ?_
    refine JW.imul dX3_copyRow_12 ?_
    refine JW.iload dX3_copyRow_13 rfl ?_
    refine JW.iadd dX3_copyRow_15 ?_
    refine JW.aload_n dX3_copyRow_16 rfl ?_
    refine JW.iload_n dX3_copyRow_17 rfl ?_
    refine JW.iload_n dX3_copyRow_18 rfl ?_
    refine JW.imul dX3_copyRow_19 ?_
    refine JW.iload dX3_copyRow_20 rfl ?_
    refine JW.iadd dX3_copyRow_22 ?_
    obtain ⟨o_2, K⟩ := K
    refine JW.mald 6 (x := (f6 (i32 ((i32 (x1 * x2)) + x4)))) dX3_copyRow_23 (Nat.le_of_ble_eq_true rfl) rfl o_2.1 o_2.2 rfl ?_
    obtain ⟨o_3, K⟩ := K
    refine JW.mast 6 (f := f6) dX3_copyRow_24 (Nat.le_of_ble_eq_true rfl) rfl o_3.1 o_3.2 rfl ?_
    refine JW.steq (s2 := sA s 6 (upI f6 (i32 ((i32 (x1 * x3)) + x4)) (f6 (i32 ((i32 (x1 * x2)) + x4))))) (by simp only [sA_A, sS_S, sA_S, sA_lt, sS_lt, Nat.reduceLT, id_eq] <;> rfl) ?_
    refine JW.iinc (ls' := [(0, vR 358), (1, vI x1), (2, vI x2), (3, vI x3), (4, vI (i32 (x4 + 1)))]) dX3_copyRow_25 (Nat.le_of_ble_eq_true rfl) rfl rfl ?_
    refine JW.goto (tgt := 3) dX3_copyRow_28 rfl ?_
    exact JW.pick [0, 1, 2, 3, 4] rfl K
def QX3_copyRow_6 (s : MS) (a2 : Int) (a3 : Int) (a4 : Int) : Option AV → MS → Prop := fun v s' => v = none ∧ s' = sA s 6 (cpT 6 a3 a4 (s.2 6))
theorem vX3_copyRow_6_1 (s : MS) (a2 : Int) (a3 : Int) (a4 : Int) (hp : a2 = 6 ∧ (0 ≤ a3 ∧ a3 ≤ 4) ∧ (0 ≤ a4 ∧ a4 ≤ 4) ∧ a3 ≠ a4) (x1 : Int) (x2 : Int) (x3 : Int) (x4 : Int) (f6 : Int → Int) (hI : x1 = 6 ∧ x2 = a3 ∧ x3 = a4 ∧ (0 ≤ x4 ∧ x4 ≤ 6) ∧ f6 = moveC (s.2 6) (s.2 6) (6 * a3) (6 * a4) x4) (c_1 : x1 ≤ x4) : f6 = (cpT 6 a3 a4 (s.2 6)) := by
  obtain ⟨h2, h3, h4, h5⟩ := hp
  (try (have g1 := hI.1; have g2 := hI.2.1; have g3 := hI.2.2.1; have g4 := hI.2.2.2.1; have g5 := hI.2.2.2.2; clear hI; subst x1; subst x2; subst x3))
  (try simp (disch := omega) only [i32_id] at *)
  (try have hv := moveC_at (c := s.2 6) (d := s.2 6) (p := 6 * a3) (q := 6 * a4) (n := x4) (z := 6 * a3 + x4) (by omega))
  (try unfold lex3)
  (try simp only [bI_0, bI_n, Classical.not_not] at *)
  (try simp (disch := omega) only [i32_id] at *)
  first | done | omega | ((repeat' (with_reducible apply And.intro)) <;> first | assumption | rfl | omega | (rw [g5, show x4 = 6 by omega]; rfl) | (rw [g5, hv]; exact moveC_s (by omega) rfl rfl) | (exact moveC_0 _ _ _ _) | grind [upI])
theorem vX3_copyRow_6_2 (s : MS) (a2 : Int) (a3 : Int) (a4 : Int) (hp : a2 = 6 ∧ (0 ≤ a3 ∧ a3 ≤ 4) ∧ (0 ≤ a4 ∧ a4 ≤ 4) ∧ a3 ≠ a4) (x1 : Int) (x2 : Int) (x3 : Int) (x4 : Int) (f6 : Int → Int) (hI : x1 = 6 ∧ x2 = a3 ∧ x3 = a4 ∧ (0 ≤ x4 ∧ x4 ≤ 6) ∧ f6 = moveC (s.2 6) (s.2 6) (6 * a3) (6 * a4) x4) (c_1 : ¬ x1 ≤ x4) : (0 ≤ (i32 ((i32 (x1 * x2)) + x4)) ∧ (i32 ((i32 (x1 * x2)) + x4)) < 30) := by
  obtain ⟨h2, h3, h4, h5⟩ := hp
  (try (have g1 := hI.1; have g2 := hI.2.1; have g3 := hI.2.2.1; have g4 := hI.2.2.2.1; have g5 := hI.2.2.2.2; clear hI; subst x1; subst x2; subst x3))
  (try simp (disch := omega) only [i32_id] at *)
  (try have hv := moveC_at (c := s.2 6) (d := s.2 6) (p := 6 * a3) (q := 6 * a4) (n := x4) (z := 6 * a3 + x4) (by omega))
  (try unfold lex3)
  (try simp only [bI_0, bI_n, Classical.not_not] at *)
  (try simp (disch := omega) only [i32_id] at *)
  first | done | omega | ((repeat' (with_reducible apply And.intro)) <;> first | assumption | rfl | omega | (rw [g5, show x4 = 6 by omega]; rfl) | (rw [g5, hv]; exact moveC_s (by omega) rfl rfl) | (exact moveC_0 _ _ _ _) | grind [upI])
theorem vX3_copyRow_6_3 (s : MS) (a2 : Int) (a3 : Int) (a4 : Int) (hp : a2 = 6 ∧ (0 ≤ a3 ∧ a3 ≤ 4) ∧ (0 ≤ a4 ∧ a4 ≤ 4) ∧ a3 ≠ a4) (x1 : Int) (x2 : Int) (x3 : Int) (x4 : Int) (f6 : Int → Int) (hI : x1 = 6 ∧ x2 = a3 ∧ x3 = a4 ∧ (0 ≤ x4 ∧ x4 ≤ 6) ∧ f6 = moveC (s.2 6) (s.2 6) (6 * a3) (6 * a4) x4) (c_1 : ¬ x1 ≤ x4) (o_2 : (0 ≤ (i32 ((i32 (x1 * x2)) + x4)) ∧ (i32 ((i32 (x1 * x2)) + x4)) < 30)) : (0 ≤ (i32 ((i32 (x1 * x3)) + x4)) ∧ (i32 ((i32 (x1 * x3)) + x4)) < 30) := by
  obtain ⟨h2, h3, h4, h5⟩ := hp
  (try (have g1 := hI.1; have g2 := hI.2.1; have g3 := hI.2.2.1; have g4 := hI.2.2.2.1; have g5 := hI.2.2.2.2; clear hI; subst x1; subst x2; subst x3))
  (try simp (disch := omega) only [i32_id] at *)
  (try have hv := moveC_at (c := s.2 6) (d := s.2 6) (p := 6 * a3) (q := 6 * a4) (n := x4) (z := 6 * a3 + x4) (by omega))
  (try unfold lex3)
  (try simp only [bI_0, bI_n, Classical.not_not] at *)
  (try simp (disch := omega) only [i32_id] at *)
  first | done | omega | ((repeat' (with_reducible apply And.intro)) <;> first | assumption | rfl | omega | (rw [g5, show x4 = 6 by omega]; rfl) | (rw [g5, hv]; exact moveC_s (by omega) rfl rfl) | (exact moveC_0 _ _ _ _) | grind [upI])
theorem vX3_copyRow_6_4 (s : MS) (a2 : Int) (a3 : Int) (a4 : Int) (hp : a2 = 6 ∧ (0 ≤ a3 ∧ a3 ≤ 4) ∧ (0 ≤ a4 ∧ a4 ≤ 4) ∧ a3 ≠ a4) (x1 : Int) (x2 : Int) (x3 : Int) (x4 : Int) (f6 : Int → Int) (hI : x1 = 6 ∧ x2 = a3 ∧ x3 = a4 ∧ (0 ≤ x4 ∧ x4 ≤ 6) ∧ f6 = moveC (s.2 6) (s.2 6) (6 * a3) (6 * a4) x4) (c_1 : ¬ x1 ≤ x4) (o_2 : (0 ≤ (i32 ((i32 (x1 * x2)) + x4)) ∧ (i32 ((i32 (x1 * x2)) + x4)) < 30)) (o_3 : (0 ≤ (i32 ((i32 (x1 * x3)) + x4)) ∧ (i32 ((i32 (x1 * x3)) + x4)) < 30)) : x1 = 6 ∧ x2 = a3 ∧ x3 = a4 ∧ (0 ≤ (i32 (x4 + 1)) ∧ (i32 (x4 + 1)) ≤ 6) ∧ (upI f6 (i32 ((i32 (x1 * x3)) + x4)) (f6 (i32 ((i32 (x1 * x2)) + x4)))) = moveC (s.2 6) (s.2 6) (6 * a3) (6 * a4) (i32 (x4 + 1)) := by
  obtain ⟨h2, h3, h4, h5⟩ := hp
  (try (have g1 := hI.1; have g2 := hI.2.1; have g3 := hI.2.2.1; have g4 := hI.2.2.2.1; have g5 := hI.2.2.2.2; clear hI; subst x1; subst x2; subst x3))
  (try simp (disch := omega) only [i32_id] at *)
  (try have hv := moveC_at (c := s.2 6) (d := s.2 6) (p := 6 * a3) (q := 6 * a4) (n := x4) (z := 6 * a3 + x4) (by omega))
  (try unfold lex3)
  (try simp only [bI_0, bI_n, Classical.not_not] at *)
  (try simp (disch := omega) only [i32_id] at *)
  first | done | omega | ((repeat' (with_reducible apply And.intro)) <;> first | assumption | rfl | omega | (rw [g5, show x4 = 6 by omega]; rfl) | (rw [g5, hv]; exact moveC_s (by omega) rfl rfl) | (exact moveC_0 _ _ _ _) | grind [upI])
theorem vX3_copyRow_6_5 (s : MS) (a2 : Int) (a3 : Int) (a4 : Int) (hp : a2 = 6 ∧ (0 ≤ a3 ∧ a3 ≤ 4) ∧ (0 ≤ a4 ∧ a4 ≤ 4) ∧ a3 ≠ a4) (x1 : Int) (x2 : Int) (x3 : Int) (x4 : Int) (f6 : Int → Int) (hI : x1 = 6 ∧ x2 = a3 ∧ x3 = a4 ∧ (0 ≤ x4 ∧ x4 ≤ 6) ∧ f6 = moveC (s.2 6) (s.2 6) (6 * a3) (6 * a4) x4) (c_1 : ¬ x1 ≤ x4) (o_2 : (0 ≤ (i32 ((i32 (x1 * x2)) + x4)) ∧ (i32 ((i32 (x1 * x2)) + x4)) < 30)) (o_3 : (0 ≤ (i32 ((i32 (x1 * x3)) + x4)) ∧ (i32 ((i32 (x1 * x3)) + x4)) < 30)) : lex3 0 0 ((6 - (i32 (x4 + 1))).toNat) 0 0 ((6 - x4).toNat) := by
  obtain ⟨h2, h3, h4, h5⟩ := hp
  (try (have g1 := hI.1; have g2 := hI.2.1; have g3 := hI.2.2.1; have g4 := hI.2.2.2.1; have g5 := hI.2.2.2.2; clear hI; subst x1; subst x2; subst x3))
  (try simp (disch := omega) only [i32_id] at *)
  (try have hv := moveC_at (c := s.2 6) (d := s.2 6) (p := 6 * a3) (q := 6 * a4) (n := x4) (z := 6 * a3 + x4) (by omega))
  (try unfold lex3)
  (try simp only [bI_0, bI_n, Classical.not_not] at *)
  (try simp (disch := omega) only [i32_id] at *)
  first | done | omega | ((repeat' (with_reducible apply And.intro)) <;> first | assumption | rfl | omega | (rw [g5, show x4 = 6 by omega]; rfl) | (rw [g5, hv]; exact moveC_s (by omega) rfl rfl) | (exact moveC_0 _ _ _ _) | grind [upI])
theorem vX3_copyRow_6_6 (s : MS) (a2 : Int) (a3 : Int) (a4 : Int) (hp : a2 = 6 ∧ (0 ≤ a3 ∧ a3 ≤ 4) ∧ (0 ≤ a4 ∧ a4 ≤ 4) ∧ a3 ≠ a4) : a2 = 6 ∧ a3 = a3 ∧ a4 = a4 ∧ (0 ≤ (0 : Int) ∧ (0 : Int) ≤ 6) ∧ (s.2 6) = moveC (s.2 6) (s.2 6) (6 * a3) (6 * a4) (0 : Int) := by
  obtain ⟨h2, h3, h4, h5⟩ := hp
  (try (have g1 := hI.1; have g2 := hI.2.1; have g3 := hI.2.2.1; have g4 := hI.2.2.2.1; have g5 := hI.2.2.2.2; clear hI; subst x1; subst x2; subst x3))
  (try simp (disch := omega) only [i32_id] at *)
  (try have hv := moveC_at (c := s.2 6) (d := s.2 6) (p := 6 * a3) (q := 6 * a4) (n := x4) (z := 6 * a3 + x4) (by omega))
  (try unfold lex3)
  (try simp only [bI_0, bI_n, Classical.not_not] at *)
  (try simp (disch := omega) only [i32_id] at *)
  first | done | omega | ((repeat' (with_reducible apply And.intro)) <;> first | assumption | rfl | omega | (rw [g5, show x4 = 6 by omega]; rfl) | (rw [g5, hv]; exact moveC_s (by omega) rfl rfl) | (exact moveC_0 _ _ _ _) | grind [upI])
theorem allX3_copyRow_6 (b : AH) (s : MS) (a2 : Int) (a3 : Int) (a4 : Int) (hp : a2 = 6 ∧ (0 ≤ a3 ∧ a3 ≤ 4) ∧ (0 ≤ a4 ∧ a4 ≤ 4) ∧ a3 ≠ a4) : ∀ m1 m2 m3 : Nat, (∀ (x1 : Int) (x2 : Int) (x3 : Int) (x4 : Int) (f6 : Int → Int), m1 = 0 → m2 = 0 → m3 = ((6 - x4).toNat) → (x1 = 6 ∧ x2 = a3 ∧ x3 = a4 ∧ (0 ≤ x4 ∧ x4 ≤ 6) ∧ f6 = moveC (s.2 6) (s.2 6) (6 * a3) (6 * a4) x4) → HX3_copyRow_6_3 (QX3_copyRow_6 s a2 a3 a4) b s x1 x2 x3 x4 f6) := by
  refine lex3_ind ?_
  intro m1 m2 m3 ih
  rintro x1 x2 x3 x4 f6 rfl rfl rfl hI
  refine bX3_copyRow_6_3 b s x1 x2 x3 x4 f6 ?_
  refine ⟨fun c_1 => ?_, fun c_1 => ?_⟩
  · exact ⟨rfl, (sA_c rfl (vX3_copyRow_6_1 s a2 a3 a4 hp x1 x2 x3 x4 f6 hI c_1))⟩
  · have o_2 : (0 ≤ (i32 ((i32 (x1 * x2)) + x4)) ∧ (i32 ((i32 (x1 * x2)) + x4)) < 30) := (vX3_copyRow_6_2 s a2 a3 a4 hp x1 x2 x3 x4 f6 hI c_1)
    refine ⟨o_2, ?_⟩
    have o_3 : (0 ≤ (i32 ((i32 (x1 * x3)) + x4)) ∧ (i32 ((i32 (x1 * x3)) + x4)) < 30) := (vX3_copyRow_6_3 s a2 a3 a4 hp x1 x2 x3 x4 f6 hI c_1 o_2)
    refine ⟨o_3, ?_⟩
    exact (ih _ _ _ (vX3_copyRow_6_5 s a2 a3 a4 hp x1 x2 x3 x4 f6 hI c_1 o_2 o_3)) x1 x2 x3 (i32 (x4 + 1)) (upI f6 (i32 ((i32 (x1 * x3)) + x4)) (f6 (i32 ((i32 (x1 * x2)) + x4)))) rfl rfl rfl (vX3_copyRow_6_4 s a2 a3 a4 hp x1 x2 x3 x4 f6 hI c_1 o_2 o_3)
theorem ctX3_copyRow_6 (b : AH) (s : MS) (a2 : Int) (a3 : Int) (a4 : Int) (hp : a2 = 6 ∧ (0 ≤ a3 ∧ a3 ≤ 4) ∧ (0 ≤ a4 ∧ a4 ≤ 4) ∧ a3 ≠ a4) : MCS mX3_copyRow 1 b s [vR 358, vI a2, vI a3, vI a4] (QX3_copyRow_6 s a2 a3 a4) := by
  refine MCS.of (by decide) rfl (Nat.le_of_ble_eq_true rfl) (JW.steq (s2 := sA s 6 (s.2 6)) (by simp only [sA_id, sS_id]) ?_)
  refine bX3_copyRow_6_0 b s a2 a3 a4 (s.2 6) ?_
  exact (allX3_copyRow_6 b s a2 a3 a4 hp _ _ _) a2 a3 a4 0 (s.2 6) rfl rfl rfl (vX3_copyRow_6_6 s a2 a3 a4 hp)
def HX3_copyRow_7_0 (Q : Option AV → MS → Prop) (b : AH) (s : MS) (x1 : Int) (x2 : Int) (x3 : Int) (f7 : Int → Int) : Prop := MW mX3_copyRow 1 Q b 0 [(0, vR 359), (1, vI x1), (2, vI x2), (3, vI x3)] [] (sA s 7 f7)
def HX3_copyRow_7_3 (Q : Option AV → MS → Prop) (b : AH) (s : MS) (x1 : Int) (x2 : Int) (x3 : Int) (x4 : Int) (f7 : Int → Int) : Prop := MW mX3_copyRow 1 Q b 3 [(0, vR 359), (1, vI x1), (2, vI x2), (3, vI x3), (4, vI x4)] [] (sA s 7 f7)
theorem bX3_copyRow_7_0 {Q : Option AV → MS → Prop} (b : AH) (s : MS) (x1 : Int) (x2 : Int) (x3 : Int) (f7 : Int → Int) (K : HX3_copyRow_7_3 Q b s x1 x2 x3 0 f7) : HX3_copyRow_7_0 Q b s x1 x2 x3 f7 := by
  refine JW.iconst dX3_copyRow_0 rfl ?_
  refine JW.istore (ls' := [(0, vR 359), (1, vI x1), (2, vI x2), (3, vI x3), (4, vI 0)]) dX3_copyRow_1 (Nat.le_of_ble_eq_true rfl) rfl ?_
  exact JW.pick [0, 1, 2, 3, 4] rfl K
theorem bX3_copyRow_7_3 {Q : Option AV → MS → Prop} (b : AH) (s : MS) (x1 : Int) (x2 : Int) (x3 : Int) (x4 : Int) (f7 : Int → Int) (K : (x1 ≤ x4 → Q none (sA s 7 f7)) ∧ (¬ x1 ≤ x4 → (0 ≤ (i32 ((i32 (x1 * x2)) + x4)) ∧ (i32 ((i32 (x1 * x2)) + x4)) < 120) ∧ ((0 ≤ (i32 ((i32 (x1 * x3)) + x4)) ∧ (i32 ((i32 (x1 * x3)) + x4)) < 120) ∧ (HX3_copyRow_7_3 Q b s x1 x2 x3 (i32 (x4 + 1)) (upI f7 (i32 ((i32 (x1 * x3)) + x4)) (f7 (i32 ((i32 (x1 * x2)) + x4)))))))) : HX3_copyRow_7_3 Q b s x1 x2 x3 x4 f7 := by
  refine JW.iload dX3_copyRow_3 rfl ?_
  refine JW.iload_n dX3_copyRow_5 rfl ?_
  refine JW.icmp_ge (tgt := 31) dX3_copyRow_6 rfl (fun c_1 => ?_) (fun c_1 => ?_)
  · have K := K.1 c_1
    exact JW.vreturn dX3_copyRow_31 rfl ⟨_, rfl, K⟩
  · have K := K.2 c_1
    refine JW.aload_n dX3_copyRow_9 rfl ?_
    refine JW.iload_n dX3_copyRow_10 rfl ?_
    refine JW.iload_n dX3_copyRow_11 rfl ?_
    refine JW.imul dX3_copyRow_12 ?_
    refine JW.iload dX3_copyRow_13 rfl ?_
    refine JW.iadd dX3_copyRow_15 ?_
    refine JW.aload_n dX3_copyRow_16 rfl ?_
    refine JW.iload_n dX3_copyRow_17 rfl ?_
    refine JW.iload_n dX3_copyRow_18 rfl ?_
    refine JW.imul dX3_copyRow_19 ?_
    refine JW.iload dX3_copyRow_20 rfl ?_
    refine JW.iadd dX3_copyRow_22 ?_
    obtain ⟨o_2, K⟩ := K
    refine JW.mald 7 (x := (f7 (i32 ((i32 (x1 * x2)) + x4)))) dX3_copyRow_23 (Nat.le_of_ble_eq_true rfl) rfl o_2.1 o_2.2 rfl ?_
    obtain ⟨o_3, K⟩ := K
    refine JW.mast 7 (f := f7) dX3_copyRow_24 (Nat.le_of_ble_eq_true rfl) rfl o_3.1 o_3.2 rfl ?_
    refine JW.steq (s2 := sA s 7 (upI f7 (i32 ((i32 (x1 * x3)) + x4)) (f7 (i32 ((i32 (x1 * x2)) + x4))))) (by simp only [sA_A, sS_S, sA_S, sA_lt, sS_lt, Nat.reduceLT, id_eq] <;> rfl) ?_
    refine JW.iinc (ls' := [(0, vR 359), (1, vI x1), (2, vI x2), (3, vI x3), (4, vI (i32 (x4 + 1)))]) dX3_copyRow_25 (Nat.le_of_ble_eq_true rfl) rfl rfl ?_
    refine JW.goto (tgt := 3) dX3_copyRow_28 rfl ?_
    exact JW.pick [0, 1, 2, 3, 4] rfl K
def QX3_copyRow_7 (s : MS) (a2 : Int) (a3 : Int) (a4 : Int) : Option AV → MS → Prop := fun v s' => v = none ∧ s' = sA s 7 (cpT 24 a3 a4 (s.2 7))
theorem vX3_copyRow_7_1 (s : MS) (a2 : Int) (a3 : Int) (a4 : Int) (hp : a2 = 24 ∧ (0 ≤ a3 ∧ a3 ≤ 4) ∧ (0 ≤ a4 ∧ a4 ≤ 4) ∧ a3 ≠ a4) (x1 : Int) (x2 : Int) (x3 : Int) (x4 : Int) (f7 : Int → Int) (hI : x1 = 24 ∧ x2 = a3 ∧ x3 = a4 ∧ (0 ≤ x4 ∧ x4 ≤ 24) ∧ f7 = moveC (s.2 7) (s.2 7) (24 * a3) (24 * a4) x4) (c_1 : x1 ≤ x4) : f7 = (cpT 24 a3 a4 (s.2 7)) := by
  obtain ⟨h2, h3, h4, h5⟩ := hp
  (try (have g1 := hI.1; have g2 := hI.2.1; have g3 := hI.2.2.1; have g4 := hI.2.2.2.1; have g5 := hI.2.2.2.2; clear hI; subst x1; subst x2; subst x3))
  (try simp (disch := omega) only [i32_id] at *)
  (try have hv := moveC_at (c := s.2 7) (d := s.2 7) (p := 24 * a3) (q := 24 * a4) (n := x4) (z := 24 * a3 + x4) (by omega))
  (try unfold lex3)
  (try simp only [bI_0, bI_n, Classical.not_not] at *)
  (try simp (disch := omega) only [i32_id] at *)
  first | done | omega | ((repeat' (with_reducible apply And.intro)) <;> first | assumption | rfl | omega | (rw [g5, show x4 = 24 by omega]; rfl) | (rw [g5, hv]; exact moveC_s (by omega) rfl rfl) | (exact moveC_0 _ _ _ _) | grind [upI])
theorem vX3_copyRow_7_2 (s : MS) (a2 : Int) (a3 : Int) (a4 : Int) (hp : a2 = 24 ∧ (0 ≤ a3 ∧ a3 ≤ 4) ∧ (0 ≤ a4 ∧ a4 ≤ 4) ∧ a3 ≠ a4) (x1 : Int) (x2 : Int) (x3 : Int) (x4 : Int) (f7 : Int → Int) (hI : x1 = 24 ∧ x2 = a3 ∧ x3 = a4 ∧ (0 ≤ x4 ∧ x4 ≤ 24) ∧ f7 = moveC (s.2 7) (s.2 7) (24 * a3) (24 * a4) x4) (c_1 : ¬ x1 ≤ x4) : (0 ≤ (i32 ((i32 (x1 * x2)) + x4)) ∧ (i32 ((i32 (x1 * x2)) + x4)) < 120) := by
  obtain ⟨h2, h3, h4, h5⟩ := hp
  (try (have g1 := hI.1; have g2 := hI.2.1; have g3 := hI.2.2.1; have g4 := hI.2.2.2.1; have g5 := hI.2.2.2.2; clear hI; subst x1; subst x2; subst x3))
  (try simp (disch := omega) only [i32_id] at *)
  (try have hv := moveC_at (c := s.2 7) (d := s.2 7) (p := 24 * a3) (q := 24 * a4) (n := x4) (z := 24 * a3 + x4) (by omega))
  (try unfold lex3)
  (try simp only [bI_0, bI_n, Classical.not_not] at *)
  (try simp (disch := omega) only [i32_id] at *)
  first | done | omega | ((repeat' (with_reducible apply And.intro)) <;> first | assumption | rfl | omega | (rw [g5, show x4 = 24 by omega]; rfl) | (rw [g5, hv]; exact moveC_s (by omega) rfl rfl) | (exact moveC_0 _ _ _ _) | grind [upI])
theorem vX3_copyRow_7_3 (s : MS) (a2 : Int) (a3 : Int) (a4 : Int) (hp : a2 = 24 ∧ (0 ≤ a3 ∧ a3 ≤ 4) ∧ (0 ≤ a4 ∧ a4 ≤ 4) ∧ a3 ≠ a4) (x1 : Int) (x2 : Int) (x3 : Int) (x4 : Int) (f7 : Int → Int) (hI : x1 = 24 ∧ x2 = a3 ∧ x3 = a4 ∧ (0 ≤ x4 ∧ x4 ≤ 24) ∧ f7 = moveC (s.2 7) (s.2 7) (24 * a3) (24 * a4) x4) (c_1 : ¬ x1 ≤ x4) (o_2 : (0 ≤ (i32 ((i32 (x1 * x2)) + x4)) ∧ (i32 ((i32 (x1 * x2)) + x4)) < 120)) : (0 ≤ (i32 ((i32 (x1 * x3)) + x4)) ∧ (i32 ((i32 (x1 * x3)) + x4)) < 120) := by
  obtain ⟨h2, h3, h4, h5⟩ := hp
  (try (have g1 := hI.1; have g2 := hI.2.1; have g3 := hI.2.2.1; have g4 := hI.2.2.2.1; have g5 := hI.2.2.2.2; clear hI; subst x1; subst x2; subst x3))
  (try simp (disch := omega) only [i32_id] at *)
  (try have hv := moveC_at (c := s.2 7) (d := s.2 7) (p := 24 * a3) (q := 24 * a4) (n := x4) (z := 24 * a3 + x4) (by omega))
  (try unfold lex3)
  (try simp only [bI_0, bI_n, Classical.not_not] at *)
  (try simp (disch := omega) only [i32_id] at *)
  first | done | omega | ((repeat' (with_reducible apply And.intro)) <;> first | assumption | rfl | omega | (rw [g5, show x4 = 24 by omega]; rfl) | (rw [g5, hv]; exact moveC_s (by omega) rfl rfl) | (exact moveC_0 _ _ _ _) | grind [upI])
theorem vX3_copyRow_7_4 (s : MS) (a2 : Int) (a3 : Int) (a4 : Int) (hp : a2 = 24 ∧ (0 ≤ a3 ∧ a3 ≤ 4) ∧ (0 ≤ a4 ∧ a4 ≤ 4) ∧ a3 ≠ a4) (x1 : Int) (x2 : Int) (x3 : Int) (x4 : Int) (f7 : Int → Int) (hI : x1 = 24 ∧ x2 = a3 ∧ x3 = a4 ∧ (0 ≤ x4 ∧ x4 ≤ 24) ∧ f7 = moveC (s.2 7) (s.2 7) (24 * a3) (24 * a4) x4) (c_1 : ¬ x1 ≤ x4) (o_2 : (0 ≤ (i32 ((i32 (x1 * x2)) + x4)) ∧ (i32 ((i32 (x1 * x2)) + x4)) < 120)) (o_3 : (0 ≤ (i32 ((i32 (x1 * x3)) + x4)) ∧ (i32 ((i32 (x1 * x3)) + x4)) < 120)) : x1 = 24 ∧ x2 = a3 ∧ x3 = a4 ∧ (0 ≤ (i32 (x4 + 1)) ∧ (i32 (x4 + 1)) ≤ 24) ∧ (upI f7 (i32 ((i32 (x1 * x3)) + x4)) (f7 (i32 ((i32 (x1 * x2)) + x4)))) = moveC (s.2 7) (s.2 7) (24 * a3) (24 * a4) (i32 (x4 + 1)) := by
  obtain ⟨h2, h3, h4, h5⟩ := hp
  (try (have g1 := hI.1; have g2 := hI.2.1; have g3 := hI.2.2.1; have g4 := hI.2.2.2.1; have g5 := hI.2.2.2.2; clear hI; subst x1; subst x2; subst x3))
  (try simp (disch := omega) only [i32_id] at *)
  (try have hv := moveC_at (c := s.2 7) (d := s.2 7) (p := 24 * a3) (q := 24 * a4) (n := x4) (z := 24 * a3 + x4) (by omega))
  (try unfold lex3)
  (try simp only [bI_0, bI_n, Classical.not_not] at *)
  (try simp (disch := omega) only [i32_id] at *)
  first | done | omega | ((repeat' (with_reducible apply And.intro)) <;> first | assumption | rfl | omega | (rw [g5, show x4 = 24 by omega]; rfl) | (rw [g5, hv]; exact moveC_s (by omega) rfl rfl) | (exact moveC_0 _ _ _ _) | grind [upI])
theorem vX3_copyRow_7_5 (s : MS) (a2 : Int) (a3 : Int) (a4 : Int) (hp : a2 = 24 ∧ (0 ≤ a3 ∧ a3 ≤ 4) ∧ (0 ≤ a4 ∧ a4 ≤ 4) ∧ a3 ≠ a4) (x1 : Int) (x2 : Int) (x3 : Int) (x4 : Int) (f7 : Int → Int) (hI : x1 = 24 ∧ x2 = a3 ∧ x3 = a4 ∧ (0 ≤ x4 ∧ x4 ≤ 24) ∧ f7 = moveC (s.2 7) (s.2 7) (24 * a3) (24 * a4) x4) (c_1 : ¬ x1 ≤ x4) (o_2 : (0 ≤ (i32 ((i32 (x1 * x2)) + x4)) ∧ (i32 ((i32 (x1 * x2)) + x4)) < 120)) (o_3 : (0 ≤ (i32 ((i32 (x1 * x3)) + x4)) ∧ (i32 ((i32 (x1 * x3)) + x4)) < 120)) : lex3 0 0 ((24 - (i32 (x4 + 1))).toNat) 0 0 ((24 - x4).toNat) := by
  obtain ⟨h2, h3, h4, h5⟩ := hp
  (try (have g1 := hI.1; have g2 := hI.2.1; have g3 := hI.2.2.1; have g4 := hI.2.2.2.1; have g5 := hI.2.2.2.2; clear hI; subst x1; subst x2; subst x3))
  (try simp (disch := omega) only [i32_id] at *)
  (try have hv := moveC_at (c := s.2 7) (d := s.2 7) (p := 24 * a3) (q := 24 * a4) (n := x4) (z := 24 * a3 + x4) (by omega))
  (try unfold lex3)
  (try simp only [bI_0, bI_n, Classical.not_not] at *)
  (try simp (disch := omega) only [i32_id] at *)
  first | done | omega | ((repeat' (with_reducible apply And.intro)) <;> first | assumption | rfl | omega | (rw [g5, show x4 = 24 by omega]; rfl) | (rw [g5, hv]; exact moveC_s (by omega) rfl rfl) | (exact moveC_0 _ _ _ _) | grind [upI])
theorem vX3_copyRow_7_6 (s : MS) (a2 : Int) (a3 : Int) (a4 : Int) (hp : a2 = 24 ∧ (0 ≤ a3 ∧ a3 ≤ 4) ∧ (0 ≤ a4 ∧ a4 ≤ 4) ∧ a3 ≠ a4) : a2 = 24 ∧ a3 = a3 ∧ a4 = a4 ∧ (0 ≤ (0 : Int) ∧ (0 : Int) ≤ 24) ∧ (s.2 7) = moveC (s.2 7) (s.2 7) (24 * a3) (24 * a4) (0 : Int) := by
  obtain ⟨h2, h3, h4, h5⟩ := hp
  (try (have g1 := hI.1; have g2 := hI.2.1; have g3 := hI.2.2.1; have g4 := hI.2.2.2.1; have g5 := hI.2.2.2.2; clear hI; subst x1; subst x2; subst x3))
  (try simp (disch := omega) only [i32_id] at *)
  (try have hv := moveC_at (c := s.2 7) (d := s.2 7) (p := 24 * a3) (q := 24 * a4) (n := x4) (z := 24 * a3 + x4) (by omega))
  (try unfold lex3)
  (try simp only [bI_0, bI_n, Classical.not_not] at *)
  (try simp (disch := omega) only [i32_id] at *)
  first | done | omega | ((repeat' (with_reducible apply And.intro)) <;> first | assumption | rfl | omega | (rw [g5, show x4 = 24 by omega]; rfl) | (rw [g5, hv]; exact moveC_s (by omega) rfl rfl) | (exact moveC_0 _ _ _ _) | grind [upI])
theorem allX3_copyRow_7 (b : AH) (s : MS) (a2 : Int) (a3 : Int) (a4 : Int) (hp : a2 = 24 ∧ (0 ≤ a3 ∧ a3 ≤ 4) ∧ (0 ≤ a4 ∧ a4 ≤ 4) ∧ a3 ≠ a4) : ∀ m1 m2 m3 : Nat, (∀ (x1 : Int) (x2 : Int) (x3 : Int) (x4 : Int) (f7 : Int → Int), m1 = 0 → m2 = 0 → m3 = ((24 - x4).toNat) → (x1 = 24 ∧ x2 = a3 ∧ x3 = a4 ∧ (0 ≤ x4 ∧ x4 ≤ 24) ∧ f7 = moveC (s.2 7) (s.2 7) (24 * a3) (24 * a4) x4) → HX3_copyRow_7_3 (QX3_copyRow_7 s a2 a3 a4) b s x1 x2 x3 x4 f7) := by
  refine lex3_ind ?_
  intro m1 m2 m3 ih
  rintro x1 x2 x3 x4 f7 rfl rfl rfl hI
  refine bX3_copyRow_7_3 b s x1 x2 x3 x4 f7 ?_
  refine ⟨fun c_1 => ?_, fun c_1 => ?_⟩
  · exact ⟨rfl, (sA_c rfl (vX3_copyRow_7_1 s a2 a3 a4 hp x1 x2 x3 x4 f7 hI c_1))⟩
  · have o_2 : (0 ≤ (i32 ((i32 (x1 * x2)) + x4)) ∧ (i32 ((i32 (x1 * x2)) + x4)) < 120) := (vX3_copyRow_7_2 s a2 a3 a4 hp x1 x2 x3 x4 f7 hI c_1)
    refine ⟨o_2, ?_⟩
    have o_3 : (0 ≤ (i32 ((i32 (x1 * x3)) + x4)) ∧ (i32 ((i32 (x1 * x3)) + x4)) < 120) := (vX3_copyRow_7_3 s a2 a3 a4 hp x1 x2 x3 x4 f7 hI c_1 o_2)
    refine ⟨o_3, ?_⟩
    exact (ih _ _ _ (vX3_copyRow_7_5 s a2 a3 a4 hp x1 x2 x3 x4 f7 hI c_1 o_2 o_3)) x1 x2 x3 (i32 (x4 + 1)) (upI f7 (i32 ((i32 (x1 * x3)) + x4)) (f7 (i32 ((i32 (x1 * x2)) + x4)))) rfl rfl rfl (vX3_copyRow_7_4 s a2 a3 a4 hp x1 x2 x3 x4 f7 hI c_1 o_2 o_3)
theorem ctX3_copyRow_7 (b : AH) (s : MS) (a2 : Int) (a3 : Int) (a4 : Int) (hp : a2 = 24 ∧ (0 ≤ a3 ∧ a3 ≤ 4) ∧ (0 ≤ a4 ∧ a4 ≤ 4) ∧ a3 ≠ a4) : MCS mX3_copyRow 1 b s [vR 359, vI a2, vI a3, vI a4] (QX3_copyRow_7 s a2 a3 a4) := by
  refine MCS.of (by decide) rfl (Nat.le_of_ble_eq_true rfl) (JW.steq (s2 := sA s 7 (s.2 7)) (by simp only [sA_id, sS_id]) ?_)
  refine bX3_copyRow_7_0 b s a2 a3 a4 (s.2 7) ?_
  exact (allX3_copyRow_7 b s a2 a3 a4 hp _ _ _) a2 a3 a4 0 (s.2 7) rfl rfl rfl (vX3_copyRow_7_6 s a2 a3 a4 hp)
def HX3_copyRow_8_0 (Q : Option AV → MS → Prop) (b : AH) (s : MS) (x1 : Int) (x2 : Int) (x3 : Int) (f8 : Int → Int) : Prop := MW mX3_copyRow 1 Q b 0 [(0, vR 360), (1, vI x1), (2, vI x2), (3, vI x3)] [] (sA s 8 f8)
def HX3_copyRow_8_3 (Q : Option AV → MS → Prop) (b : AH) (s : MS) (x1 : Int) (x2 : Int) (x3 : Int) (x4 : Int) (f8 : Int → Int) : Prop := MW mX3_copyRow 1 Q b 3 [(0, vR 360), (1, vI x1), (2, vI x2), (3, vI x3), (4, vI x4)] [] (sA s 8 f8)
theorem bX3_copyRow_8_0 {Q : Option AV → MS → Prop} (b : AH) (s : MS) (x1 : Int) (x2 : Int) (x3 : Int) (f8 : Int → Int) (K : HX3_copyRow_8_3 Q b s x1 x2 x3 0 f8) : HX3_copyRow_8_0 Q b s x1 x2 x3 f8 := by
  refine JW.iconst dX3_copyRow_0 rfl ?_
  refine JW.istore (ls' := [(0, vR 360), (1, vI x1), (2, vI x2), (3, vI x3), (4, vI 0)]) dX3_copyRow_1 (Nat.le_of_ble_eq_true rfl) rfl ?_
  exact JW.pick [0, 1, 2, 3, 4] rfl K
theorem bX3_copyRow_8_3 {Q : Option AV → MS → Prop} (b : AH) (s : MS) (x1 : Int) (x2 : Int) (x3 : Int) (x4 : Int) (f8 : Int → Int) (K : (x1 ≤ x4 → Q none (sA s 8 f8)) ∧ (¬ x1 ≤ x4 → (0 ≤ (i32 ((i32 (x1 * x2)) + x4)) ∧ (i32 ((i32 (x1 * x2)) + x4)) < 120) ∧ ((0 ≤ (i32 ((i32 (x1 * x3)) + x4)) ∧ (i32 ((i32 (x1 * x3)) + x4)) < 120) ∧ (HX3_copyRow_8_3 Q b s x1 x2 x3 (i32 (x4 + 1)) (upI f8 (i32 ((i32 (x1 * x3)) + x4)) (f8 (i32 ((i32 (x1 * x2)) + x4)))))))) : HX3_copyRow_8_3 Q b s x1 x2 x3 x4 f8 := by
  refine JW.iload dX3_copyRow_3 rfl ?_
  refine JW.iload_n dX3_copyRow_5 rfl ?_
  refine JW.icmp_ge (tgt := 31) dX3_copyRow_6 rfl (fun c_1 => ?_) (fun c_1 => ?_)
  · have K := K.1 c_1
    exact JW.vreturn dX3_copyRow_31 rfl ⟨_, rfl, K⟩
  · have K := K.2 c_1
    refine JW.aload_n dX3_copyRow_9 rfl ?_
    refine JW.iload_n dX3_copyRow_10 rfl ?_
    refine JW.iload_n dX3_copyRow_11 rfl ?_
    refine JW.imul dX3_copyRow_12 ?_
    refine JW.iload dX3_copyRow_13 rfl ?_
    refine JW.iadd dX3_copyRow_15 ?_
    refine JW.aload_n dX3_copyRow_16 rfl ?_
    refine JW.iload_n dX3_copyRow_17 rfl ?_
    refine JW.iload_n dX3_copyRow_18 rfl ?_
    refine JW.imul dX3_copyRow_19 ?_
    refine JW.iload dX3_copyRow_20 rfl ?_
    refine JW.iadd dX3_copyRow_22 ?_
    obtain ⟨o_2, K⟩ := K
    refine JW.mald 8 (x := (f8 (i32 ((i32 (x1 * x2)) + x4)))) dX3_copyRow_23 (Nat.le_of_ble_eq_true rfl) rfl o_2.1 o_2.2 rfl ?_
    obtain ⟨o_3, K⟩ := K
    refine JW.mast 8 (f := f8) dX3_copyRow_24 (Nat.le_of_ble_eq_true rfl) rfl o_3.1 o_3.2 rfl ?_
    refine JW.steq (s2 := sA s 8 (upI f8 (i32 ((i32 (x1 * x3)) + x4)) (f8 (i32 ((i32 (x1 * x2)) + x4))))) (by simp only [sA_A, sS_S, sA_S, sA_lt, sS_lt, Nat.reduceLT, id_eq] <;> rfl) ?_
    refine JW.iinc (ls' := [(0, vR 360), (1, vI x1), (2, vI x2), (3, vI x3), (4, vI (i32 (x4 + 1)))]) dX3_copyRow_25 (Nat.le_of_ble_eq_true rfl) rfl rfl ?_
    refine JW.goto (tgt := 3) dX3_copyRow_28 rfl ?_
    exact JW.pick [0, 1, 2, 3, 4] rfl K
def QX3_copyRow_8 (s : MS) (a2 : Int) (a3 : Int) (a4 : Int) : Option AV → MS → Prop := fun v s' => v = none ∧ s' = sA s 8 (cpT 24 a3 a4 (s.2 8))
theorem vX3_copyRow_8_1 (s : MS) (a2 : Int) (a3 : Int) (a4 : Int) (hp : a2 = 24 ∧ (0 ≤ a3 ∧ a3 ≤ 4) ∧ (0 ≤ a4 ∧ a4 ≤ 4) ∧ a3 ≠ a4) (x1 : Int) (x2 : Int) (x3 : Int) (x4 : Int) (f8 : Int → Int) (hI : x1 = 24 ∧ x2 = a3 ∧ x3 = a4 ∧ (0 ≤ x4 ∧ x4 ≤ 24) ∧ f8 = moveC (s.2 8) (s.2 8) (24 * a3) (24 * a4) x4) (c_1 : x1 ≤ x4) : f8 = (cpT 24 a3 a4 (s.2 8)) := by
  obtain ⟨h2, h3, h4, h5⟩ := hp
  (try (have g1 := hI.1; have g2 := hI.2.1; have g3 := hI.2.2.1; have g4 := hI.2.2.2.1; have g5 := hI.2.2.2.2; clear hI; subst x1; subst x2; subst x3))
  (try simp (disch := omega) only [i32_id] at *)
  (try have hv := moveC_at (c := s.2 8) (d := s.2 8) (p := 24 * a3) (q := 24 * a4) (n := x4) (z := 24 * a3 + x4) (by omega))
  (try unfold lex3)
  (try simp only [bI_0, bI_n, Classical.not_not] at *)
  (try simp (disch := omega) only [i32_id] at *)
  first | done | omega | ((repeat' (with_reducible apply And.intro)) <;> first | assumption | rfl | omega | (rw [g5, show x4 = 24 by omega]; rfl) | (rw [g5, hv]; exact moveC_s (by omega) rfl rfl) | (exact moveC_0 _ _ _ _) | grind [upI])
theorem vX3_copyRow_8_2 (s : MS) (a2 : Int) (a3 : Int) (a4 : Int) (hp : a2 = 24 ∧ (0 ≤ a3 ∧ a3 ≤ 4) ∧ (0 ≤ a4 ∧ a4 ≤ 4) ∧ a3 ≠ a4) (x1 : Int) (x2 : Int) (x3 : Int) (x4 : Int) (f8 : Int → Int) (hI : x1 = 24 ∧ x2 = a3 ∧ x3 = a4 ∧ (0 ≤ x4 ∧ x4 ≤ 24) ∧ f8 = moveC (s.2 8) (s.2 8) (24 * a3) (24 * a4) x4) (c_1 : ¬ x1 ≤ x4) : (0 ≤ (i32 ((i32 (x1 * x2)) + x4)) ∧ (i32 ((i32 (x1 * x2)) + x4)) < 120) := by
  obtain ⟨h2, h3, h4, h5⟩ := hp
  (try (have g1 := hI.1; have g2 := hI.2.1; have g3 := hI.2.2.1; have g4 := hI.2.2.2.1; have g5 := hI.2.2.2.2; clear hI; subst x1; subst x2; subst x3))
  (try simp (disch := omega) only [i32_id] at *)
  (try have hv := moveC_at (c := s.2 8) (d := s.2 8) (p := 24 * a3) (q := 24 * a4) (n := x4) (z := 24 * a3 + x4) (by omega))
  (try unfold lex3)
  (try simp only [bI_0, bI_n, Classical.not_not] at *)
  (try simp (disch := omega) only [i32_id] at *)
  first | done | omega | ((repeat' (with_reducible apply And.intro)) <;> first | assumption | rfl | omega | (rw [g5, show x4 = 24 by omega]; rfl) | (rw [g5, hv]; exact moveC_s (by omega) rfl rfl) | (exact moveC_0 _ _ _ _) | grind [upI])
theorem vX3_copyRow_8_3 (s : MS) (a2 : Int) (a3 : Int) (a4 : Int) (hp : a2 = 24 ∧ (0 ≤ a3 ∧ a3 ≤ 4) ∧ (0 ≤ a4 ∧ a4 ≤ 4) ∧ a3 ≠ a4) (x1 : Int) (x2 : Int) (x3 : Int) (x4 : Int) (f8 : Int → Int) (hI : x1 = 24 ∧ x2 = a3 ∧ x3 = a4 ∧ (0 ≤ x4 ∧ x4 ≤ 24) ∧ f8 = moveC (s.2 8) (s.2 8) (24 * a3) (24 * a4) x4) (c_1 : ¬ x1 ≤ x4) (o_2 : (0 ≤ (i32 ((i32 (x1 * x2)) + x4)) ∧ (i32 ((i32 (x1 * x2)) + x4)) < 120)) : (0 ≤ (i32 ((i32 (x1 * x3)) + x4)) ∧ (i32 ((i32 (x1 * x3)) + x4)) < 120) := by
  obtain ⟨h2, h3, h4, h5⟩ := hp
  (try (have g1 := hI.1; have g2 := hI.2.1; have g3 := hI.2.2.1; have g4 := hI.2.2.2.1; have g5 := hI.2.2.2.2; clear hI; subst x1; subst x2; subst x3))
  (try simp (disch := omega) only [i32_id] at *)
  (try have hv := moveC_at (c := s.2 8) (d := s.2 8) (p := 24 * a3) (q := 24 * a4) (n := x4) (z := 24 * a3 + x4) (by omega))
  (try unfold lex3)
  (try simp only [bI_0, bI_n, Classical.not_not] at *)
  (try simp (disch := omega) only [i32_id] at *)
  first | done | omega | ((repeat' (with_reducible apply And.intro)) <;> first | assumption | rfl | omega | (rw [g5, show x4 = 24 by omega]; rfl) | (rw [g5, hv]; exact moveC_s (by omega) rfl rfl) | (exact moveC_0 _ _ _ _) | grind [upI])
theorem vX3_copyRow_8_4 (s : MS) (a2 : Int) (a3 : Int) (a4 : Int) (hp : a2 = 24 ∧ (0 ≤ a3 ∧ a3 ≤ 4) ∧ (0 ≤ a4 ∧ a4 ≤ 4) ∧ a3 ≠ a4) (x1 : Int) (x2 : Int) (x3 : Int) (x4 : Int) (f8 : Int → Int) (hI : x1 = 24 ∧ x2 = a3 ∧ x3 = a4 ∧ (0 ≤ x4 ∧ x4 ≤ 24) ∧ f8 = moveC (s.2 8) (s.2 8) (24 * a3) (24 * a4) x4) (c_1 : ¬ x1 ≤ x4) (o_2 : (0 ≤ (i32 ((i32 (x1 * x2)) + x4)) ∧ (i32 ((i32 (x1 * x2)) + x4)) < 120)) (o_3 : (0 ≤ (i32 ((i32 (x1 * x3)) + x4)) ∧ (i32 ((i32 (x1 * x3)) + x4)) < 120)) : x1 = 24 ∧ x2 = a3 ∧ x3 = a4 ∧ (0 ≤ (i32 (x4 + 1)) ∧ (i32 (x4 + 1)) ≤ 24) ∧ (upI f8 (i32 ((i32 (x1 * x3)) + x4)) (f8 (i32 ((i32 (x1 * x2)) + x4)))) = moveC (s.2 8) (s.2 8) (24 * a3) (24 * a4) (i32 (x4 + 1)) := by
  obtain ⟨h2, h3, h4, h5⟩ := hp
  (try (have g1 := hI.1; have g2 := hI.2.1; have g3 := hI.2.2.1; have g4 := hI.2.2.2.1; have g5 := hI.2.2.2.2; clear hI; subst x1; subst x2; subst x3))
  (try simp (disch := omega) only [i32_id] at *)
  (try have hv := moveC_at (c := s.2 8) (d := s.2 8) (p := 24 * a3) (q := 24 * a4) (n := x4) (z := 24 * a3 + x4) (by omega))
  (try unfold lex3)
  (try simp only [bI_0, bI_n, Classical.not_not] at *)
  (try simp (disch := omega) only [i32_id] at *)
  first | done | omega | ((repeat' (with_reducible apply And.intro)) <;> first | assumption | rfl | omega | (rw [g5, show x4 = 24 by omega]; rfl) | (rw [g5, hv]; exact moveC_s (by omega) rfl rfl) | (exact moveC_0 _ _ _ _) | grind [upI])
theorem vX3_copyRow_8_5 (s : MS) (a2 : Int) (a3 : Int) (a4 : Int) (hp : a2 = 24 ∧ (0 ≤ a3 ∧ a3 ≤ 4) ∧ (0 ≤ a4 ∧ a4 ≤ 4) ∧ a3 ≠ a4) (x1 : Int) (x2 : Int) (x3 : Int) (x4 : Int) (f8 : Int → Int) (hI : x1 = 24 ∧ x2 = a3 ∧ x3 = a4 ∧ (0 ≤ x4 ∧ x4 ≤ 24) ∧ f8 = moveC (s.2 8) (s.2 8) (24 * a3) (24 * a4) x4) (c_1 : ¬ x1 ≤ x4) (o_2 : (0 ≤ (i32 ((i32 (x1 * x2)) + x4)) ∧ (i32 ((i32 (x1 * x2)) + x4)) < 120)) (o_3 : (0 ≤ (i32 ((i32 (x1 * x3)) + x4)) ∧ (i32 ((i32 (x1 * x3)) + x4)) < 120)) : lex3 0 0 ((24 - (i32 (x4 + 1))).toNat) 0 0 ((24 - x4).toNat) := by
  obtain ⟨h2, h3, h4, h5⟩ := hp
  (try (have g1 := hI.1; have g2 := hI.2.1; have g3 := hI.2.2.1; have g4 := hI.2.2.2.1; have g5 := hI.2.2.2.2; clear hI; subst x1; subst x2; subst x3))
  (try simp (disch := omega) only [i32_id] at *)
  (try have hv := moveC_at (c := s.2 8) (d := s.2 8) (p := 24 * a3) (q := 24 * a4) (n := x4) (z := 24 * a3 + x4) (by omega))
  (try unfold lex3)
  (try simp only [bI_0, bI_n, Classical.not_not] at *)
  (try simp (disch := omega) only [i32_id] at *)
  first | done | omega | ((repeat' (with_reducible apply And.intro)) <;> first | assumption | rfl | omega | (rw [g5, show x4 = 24 by omega]; rfl) | (rw [g5, hv]; exact moveC_s (by omega) rfl rfl) | (exact moveC_0 _ _ _ _) | grind [upI])
theorem vX3_copyRow_8_6 (s : MS) (a2 : Int) (a3 : Int) (a4 : Int) (hp : a2 = 24 ∧ (0 ≤ a3 ∧ a3 ≤ 4) ∧ (0 ≤ a4 ∧ a4 ≤ 4) ∧ a3 ≠ a4) : a2 = 24 ∧ a3 = a3 ∧ a4 = a4 ∧ (0 ≤ (0 : Int) ∧ (0 : Int) ≤ 24) ∧ (s.2 8) = moveC (s.2 8) (s.2 8) (24 * a3) (24 * a4) (0 : Int) := by
  obtain ⟨h2, h3, h4, h5⟩ := hp
  (try (have g1 := hI.1; have g2 := hI.2.1; have g3 := hI.2.2.1; have g4 := hI.2.2.2.1; have g5 := hI.2.2.2.2; clear hI; subst x1; subst x2; subst x3))
  (try simp (disch := omega) only [i32_id] at *)
  (try have hv := moveC_at (c := s.2 8) (d := s.2 8) (p := 24 * a3) (q := 24 * a4) (n := x4) (z := 24 * a3 + x4) (by omega))
  (try unfold lex3)
  (try simp only [bI_0, bI_n, Classical.not_not] at *)
  (try simp (disch := omega) only [i32_id] at *)
  first | done | omega | ((repeat' (with_reducible apply And.intro)) <;> first | assumption | rfl | omega | (rw [g5, show x4 = 24 by omega]; rfl) | (rw [g5, hv]; exact moveC_s (by omega) rfl rfl) | (exact moveC_0 _ _ _ _) | grind [upI])
theorem allX3_copyRow_8 (b : AH) (s : MS) (a2 : Int) (a3 : Int) (a4 : Int) (hp : a2 = 24 ∧ (0 ≤ a3 ∧ a3 ≤ 4) ∧ (0 ≤ a4 ∧ a4 ≤ 4) ∧ a3 ≠ a4) : ∀ m1 m2 m3 : Nat, (∀ (x1 : Int) (x2 : Int) (x3 : Int) (x4 : Int) (f8 : Int → Int), m1 = 0 → m2 = 0 → m3 = ((24 - x4).toNat) → (x1 = 24 ∧ x2 = a3 ∧ x3 = a4 ∧ (0 ≤ x4 ∧ x4 ≤ 24) ∧ f8 = moveC (s.2 8) (s.2 8) (24 * a3) (24 * a4) x4) → HX3_copyRow_8_3 (QX3_copyRow_8 s a2 a3 a4) b s x1 x2 x3 x4 f8) := by
  refine lex3_ind ?_
  intro m1 m2 m3 ih
  rintro x1 x2 x3 x4 f8 rfl rfl rfl hI
  refine bX3_copyRow_8_3 b s x1 x2 x3 x4 f8 ?_
  refine ⟨fun c_1 => ?_, fun c_1 => ?_⟩
  · exact ⟨rfl, (sA_c rfl (vX3_copyRow_8_1 s a2 a3 a4 hp x1 x2 x3 x4 f8 hI c_1))⟩
  · have o_2 : (0 ≤ (i32 ((i32 (x1 * x2)) + x4)) ∧ (i32 ((i32 (x1 * x2)) + x4)) < 120) := (vX3_copyRow_8_2 s a2 a3 a4 hp x1 x2 x3 x4 f8 hI c_1)
    refine ⟨o_2, ?_⟩
    have o_3 : (0 ≤ (i32 ((i32 (x1 * x3)) + x4)) ∧ (i32 ((i32 (x1 * x3)) + x4)) < 120) := (vX3_copyRow_8_3 s a2 a3 a4 hp x1 x2 x3 x4 f8 hI c_1 o_2)
    refine ⟨o_3, ?_⟩
    exact (ih _ _ _ (vX3_copyRow_8_5 s a2 a3 a4 hp x1 x2 x3 x4 f8 hI c_1 o_2 o_3)) x1 x2 x3 (i32 (x4 + 1)) (upI f8 (i32 ((i32 (x1 * x3)) + x4)) (f8 (i32 ((i32 (x1 * x2)) + x4)))) rfl rfl rfl (vX3_copyRow_8_4 s a2 a3 a4 hp x1 x2 x3 x4 f8 hI c_1 o_2 o_3)
theorem ctX3_copyRow_8 (b : AH) (s : MS) (a2 : Int) (a3 : Int) (a4 : Int) (hp : a2 = 24 ∧ (0 ≤ a3 ∧ a3 ≤ 4) ∧ (0 ≤ a4 ∧ a4 ≤ 4) ∧ a3 ≠ a4) : MCS mX3_copyRow 1 b s [vR 360, vI a2, vI a3, vI a4] (QX3_copyRow_8 s a2 a3 a4) := by
  refine MCS.of (by decide) rfl (Nat.le_of_ble_eq_true rfl) (JW.steq (s2 := sA s 8 (s.2 8)) (by simp only [sA_id, sS_id]) ?_)
  refine bX3_copyRow_8_0 b s a2 a3 a4 (s.2 8) ?_
  exact (allX3_copyRow_8 b s a2 a3 a4 hp _ _ _) a2 a3 a4 0 (s.2 8) rfl rfl rfl (vX3_copyRow_8_6 s a2 a3 a4 hp)
def HX3_copyRow_9_0 (Q : Option AV → MS → Prop) (b : AH) (s : MS) (x1 : Int) (x2 : Int) (x3 : Int) (f9 : Int → Int) : Prop := MW mX3_copyRow 1 Q b 0 [(0, vR 361), (1, vI x1), (2, vI x2), (3, vI x3)] [] (sA s 9 f9)
def HX3_copyRow_9_3 (Q : Option AV → MS → Prop) (b : AH) (s : MS) (x1 : Int) (x2 : Int) (x3 : Int) (x4 : Int) (f9 : Int → Int) : Prop := MW mX3_copyRow 1 Q b 3 [(0, vR 361), (1, vI x1), (2, vI x2), (3, vI x3), (4, vI x4)] [] (sA s 9 f9)
theorem bX3_copyRow_9_0 {Q : Option AV → MS → Prop} (b : AH) (s : MS) (x1 : Int) (x2 : Int) (x3 : Int) (f9 : Int → Int) (K : HX3_copyRow_9_3 Q b s x1 x2 x3 0 f9) : HX3_copyRow_9_0 Q b s x1 x2 x3 f9 := by
  refine JW.iconst dX3_copyRow_0 rfl ?_
  refine JW.istore (ls' := [(0, vR 361), (1, vI x1), (2, vI x2), (3, vI x3), (4, vI 0)]) dX3_copyRow_1 (Nat.le_of_ble_eq_true rfl) rfl ?_
  exact JW.pick [0, 1, 2, 3, 4] rfl K
theorem bX3_copyRow_9_3 {Q : Option AV → MS → Prop} (b : AH) (s : MS) (x1 : Int) (x2 : Int) (x3 : Int) (x4 : Int) (f9 : Int → Int) (K : (x1 ≤ x4 → Q none (sA s 9 f9)) ∧ (¬ x1 ≤ x4 → (0 ≤ (i32 ((i32 (x1 * x2)) + x4)) ∧ (i32 ((i32 (x1 * x2)) + x4)) < 100) ∧ ((0 ≤ (i32 ((i32 (x1 * x3)) + x4)) ∧ (i32 ((i32 (x1 * x3)) + x4)) < 100) ∧ (HX3_copyRow_9_3 Q b s x1 x2 x3 (i32 (x4 + 1)) (upI f9 (i32 ((i32 (x1 * x3)) + x4)) (f9 (i32 ((i32 (x1 * x2)) + x4)))))))) : HX3_copyRow_9_3 Q b s x1 x2 x3 x4 f9 := by
  refine JW.iload dX3_copyRow_3 rfl ?_
  refine JW.iload_n dX3_copyRow_5 rfl ?_
  refine JW.icmp_ge (tgt := 31) dX3_copyRow_6 rfl (fun c_1 => ?_) (fun c_1 => ?_)
  · have K := K.1 c_1
    exact JW.vreturn dX3_copyRow_31 rfl ⟨_, rfl, K⟩
  · have K := K.2 c_1
    refine JW.aload_n dX3_copyRow_9 rfl ?_
    refine JW.iload_n dX3_copyRow_10 rfl ?_
    refine JW.iload_n dX3_copyRow_11 rfl ?_
    refine JW.imul dX3_copyRow_12 ?_
    refine JW.iload dX3_copyRow_13 rfl ?_
    refine JW.iadd dX3_copyRow_15 ?_
    refine JW.aload_n dX3_copyRow_16 rfl ?_
    refine JW.iload_n dX3_copyRow_17 rfl ?_
    refine JW.iload_n dX3_copyRow_18 rfl ?_
    refine JW.imul dX3_copyRow_19 ?_
    refine JW.iload dX3_copyRow_20 rfl ?_
    refine JW.iadd dX3_copyRow_22 ?_
    obtain ⟨o_2, K⟩ := K
    refine JW.mald 9 (x := (f9 (i32 ((i32 (x1 * x2)) + x4)))) dX3_copyRow_23 (Nat.le_of_ble_eq_true rfl) rfl o_2.1 o_2.2 rfl ?_
    obtain ⟨o_3, K⟩ := K
    refine JW.mast 9 (f := f9) dX3_copyRow_24 (Nat.le_of_ble_eq_true rfl) rfl o_3.1 o_3.2 rfl ?_
    refine JW.steq (s2 := sA s 9 (upI f9 (i32 ((i32 (x1 * x3)) + x4)) (f9 (i32 ((i32 (x1 * x2)) + x4))))) (by simp only [sA_A, sS_S, sA_S, sA_lt, sS_lt, Nat.reduceLT, id_eq] <;> rfl) ?_
    refine JW.iinc (ls' := [(0, vR 361), (1, vI x1), (2, vI x2), (3, vI x3), (4, vI (i32 (x4 + 1)))]) dX3_copyRow_25 (Nat.le_of_ble_eq_true rfl) rfl rfl ?_
    refine JW.goto (tgt := 3) dX3_copyRow_28 rfl ?_
    exact JW.pick [0, 1, 2, 3, 4] rfl K
def QX3_copyRow_9 (s : MS) (a2 : Int) (a3 : Int) (a4 : Int) : Option AV → MS → Prop := fun v s' => v = none ∧ s' = sA s 9 (cpT 20 a3 a4 (s.2 9))
theorem vX3_copyRow_9_1 (s : MS) (a2 : Int) (a3 : Int) (a4 : Int) (hp : a2 = 20 ∧ (0 ≤ a3 ∧ a3 ≤ 4) ∧ (0 ≤ a4 ∧ a4 ≤ 4) ∧ a3 ≠ a4) (x1 : Int) (x2 : Int) (x3 : Int) (x4 : Int) (f9 : Int → Int) (hI : x1 = 20 ∧ x2 = a3 ∧ x3 = a4 ∧ (0 ≤ x4 ∧ x4 ≤ 20) ∧ f9 = moveC (s.2 9) (s.2 9) (20 * a3) (20 * a4) x4) (c_1 : x1 ≤ x4) : f9 = (cpT 20 a3 a4 (s.2 9)) := by
  obtain ⟨h2, h3, h4, h5⟩ := hp
  (try (have g1 := hI.1; have g2 := hI.2.1; have g3 := hI.2.2.1; have g4 := hI.2.2.2.1; have g5 := hI.2.2.2.2; clear hI; subst x1; subst x2; subst x3))
  (try simp (disch := omega) only [i32_id] at *)
  (try have hv := moveC_at (c := s.2 9) (d := s.2 9) (p := 20 * a3) (q := 20 * a4) (n := x4) (z := 20 * a3 + x4) (by omega))
  (try unfold lex3)
  (try simp only [bI_0, bI_n, Classical.not_not] at *)
  (try simp (disch := omega) only [i32_id] at *)
  first | done | omega | ((repeat' (with_reducible apply And.intro)) <;> first | assumption | rfl | omega | (rw [g5, show x4 = 20 by omega]; rfl) | (rw [g5, hv]; exact moveC_s (by omega) rfl rfl) | (exact moveC_0 _ _ _ _) | grind [upI])
theorem vX3_copyRow_9_2 (s : MS) (a2 : Int) (a3 : Int) (a4 : Int) (hp : a2 = 20 ∧ (0 ≤ a3 ∧ a3 ≤ 4) ∧ (0 ≤ a4 ∧ a4 ≤ 4) ∧ a3 ≠ a4) (x1 : Int) (x2 : Int) (x3 : Int) (x4 : Int) (f9 : Int → Int) (hI : x1 = 20 ∧ x2 = a3 ∧ x3 = a4 ∧ (0 ≤ x4 ∧ x4 ≤ 20) ∧ f9 = moveC (s.2 9) (s.2 9) (20 * a3) (20 * a4) x4) (c_1 : ¬ x1 ≤ x4) : (0 ≤ (i32 ((i32 (x1 * x2)) + x4)) ∧ (i32 ((i32 (x1 * x2)) + x4)) < 100) := by
  obtain ⟨h2, h3, h4, h5⟩ := hp
  (try (have g1 := hI.1; have g2 := hI.2.1; have g3 := hI.2.2.1; have g4 := hI.2.2.2.1; have g5 := hI.2.2.2.2; clear hI; subst x1; subst x2; subst x3))
  (try simp (disch := omega) only [i32_id] at *)
  (try have hv := moveC_at (c := s.2 9) (d := s.2 9) (p := 20 * a3) (q := 20 * a4) (n := x4) (z := 20 * a3 + x4) (by omega))
  (try unfold lex3)
  (try simp only [bI_0, bI_n, Classical.not_not] at *)
  (try simp (disch := omega) only [i32_id] at *)
  first | done | omega | ((repeat' (with_reducible apply And.intro)) <;> first | assumption | rfl | omega | (rw [g5, show x4 = 20 by omega]; rfl) | (rw [g5, hv]; exact moveC_s (by omega) rfl rfl) | (exact moveC_0 _ _ _ _) | grind [upI])
theorem vX3_copyRow_9_3 (s : MS) (a2 : Int) (a3 : Int) (a4 : Int) (hp : a2 = 20 ∧ (0 ≤ a3 ∧ a3 ≤ 4) ∧ (0 ≤ a4 ∧ a4 ≤ 4) ∧ a3 ≠ a4) (x1 : Int) (x2 : Int) (x3 : Int) (x4 : Int) (f9 : Int → Int) (hI : x1 = 20 ∧ x2 = a3 ∧ x3 = a4 ∧ (0 ≤ x4 ∧ x4 ≤ 20) ∧ f9 = moveC (s.2 9) (s.2 9) (20 * a3) (20 * a4) x4) (c_1 : ¬ x1 ≤ x4) (o_2 : (0 ≤ (i32 ((i32 (x1 * x2)) + x4)) ∧ (i32 ((i32 (x1 * x2)) + x4)) < 100)) : (0 ≤ (i32 ((i32 (x1 * x3)) + x4)) ∧ (i32 ((i32 (x1 * x3)) + x4)) < 100) := by
  obtain ⟨h2, h3, h4, h5⟩ := hp
  (try (have g1 := hI.1; have g2 := hI.2.1; have g3 := hI.2.2.1; have g4 := hI.2.2.2.1; have g5 := hI.2.2.2.2; clear hI; subst x1; subst x2; subst x3))
  (try simp (disch := omega) only [i32_id] at *)
  (try have hv := moveC_at (c := s.2 9) (d := s.2 9) (p := 20 * a3) (q := 20 * a4) (n := x4) (z := 20 * a3 + x4) (by omega))
  (try unfold lex3)
  (try simp only [bI_0, bI_n, Classical.not_not] at *)
  (try simp (disch := omega) only [i32_id] at *)
  first | done | omega | ((repeat' (with_reducible apply And.intro)) <;> first | assumption | rfl | omega | (rw [g5, show x4 = 20 by omega]; rfl) | (rw [g5, hv]; exact moveC_s (by omega) rfl rfl) | (exact moveC_0 _ _ _ _) | grind [upI])
theorem vX3_copyRow_9_4 (s : MS) (a2 : Int) (a3 : Int) (a4 : Int) (hp : a2 = 20 ∧ (0 ≤ a3 ∧ a3 ≤ 4) ∧ (0 ≤ a4 ∧ a4 ≤ 4) ∧ a3 ≠ a4) (x1 : Int) (x2 : Int) (x3 : Int) (x4 : Int) (f9 : Int → Int) (hI : x1 = 20 ∧ x2 = a3 ∧ x3 = a4 ∧ (0 ≤ x4 ∧ x4 ≤ 20) ∧ f9 = moveC (s.2 9) (s.2 9) (20 * a3) (20 * a4) x4) (c_1 : ¬ x1 ≤ x4) (o_2 : (0 ≤ (i32 ((i32 (x1 * x2)) + x4)) ∧ (i32 ((i32 (x1 * x2)) + x4)) < 100)) (o_3 : (0 ≤ (i32 ((i32 (x1 * x3)) + x4)) ∧ (i32 ((i32 (x1 * x3)) + x4)) < 100)) : x1 = 20 ∧ x2 = a3 ∧ x3 = a4 ∧ (0 ≤ (i32 (x4 + 1)) ∧ (i32 (x4 + 1)) ≤ 20) ∧ (upI f9 (i32 ((i32 (x1 * x3)) + x4)) (f9 (i32 ((i32 (x1 * x2)) + x4)))) = moveC (s.2 9) (s.2 9) (20 * a3) (20 * a4) (i32 (x4 + 1)) := by
  obtain ⟨h2, h3, h4, h5⟩ := hp
  (try (have g1 := hI.1; have g2 := hI.2.1; have g3 := hI.2.2.1; have g4 := hI.2.2.2.1; have g5 := hI.2.2.2.2; clear hI; subst x1; subst x2; subst x3))
  (try simp (disch := omega) only [i32_id] at *)
  (try have hv := moveC_at (c := s.2 9) (d := s.2 9) (p := 20 * a3) (q := 20 * a4) (n := x4) (z := 20 * a3 + x4) (by omega))
  (try unfold lex3)
  (try simp only [bI_0, bI_n, Classical.not_not] at *)
  (try simp (disch := omega) only [i32_id] at *)
  first | done | omega | ((repeat' (with_reducible apply And.intro)) <;> first | assumption | rfl | omega | (rw [g5, show x4 = 20 by omega]; rfl) | (rw [g5, hv]; exact moveC_s (by omega) rfl rfl) | (exact moveC_0 _ _ _ _) | grind [upI])
theorem vX3_copyRow_9_5 (s : MS) (a2 : Int) (a3 : Int) (a4 : Int) (hp : a2 = 20 ∧ (0 ≤ a3 ∧ a3 ≤ 4) ∧ (0 ≤ a4 ∧ a4 ≤ 4) ∧ a3 ≠ a4) (x1 : Int) (x2 : Int) (x3 : Int) (x4 : Int) (f9 : Int → Int) (hI : x1 = 20 ∧ x2 = a3 ∧ x3 = a4 ∧ (0 ≤ x4 ∧ x4 ≤ 20) ∧ f9 = moveC (s.2 9) (s.2 9) (20 * a3) (20 * a4) x4) (c_1 : ¬ x1 ≤ x4) (o_2 : (0 ≤ (i32 ((i32 (x1 * x2)) + x4)) ∧ (i32 ((i32 (x1 * x2)) + x4)) < 100)) (o_3 : (0 ≤ (i32 ((i32 (x1 * x3)) + x4)) ∧ (i32 ((i32 (x1 * x3)) + x4)) < 100)) : lex3 0 0 ((20 - (i32 (x4 + 1))).toNat) 0 0 ((20 - x4).toNat) := by
  obtain ⟨h2, h3, h4, h5⟩ := hp
  (try (have g1 := hI.1; have g2 := hI.2.1; have g3 := hI.2.2.1; have g4 := hI.2.2.2.1; have g5 := hI.2.2.2.2; clear hI; subst x1; subst x2; subst x3))
  (try simp (disch := omega) only [i32_id] at *)
  (try have hv := moveC_at (c := s.2 9) (d := s.2 9) (p := 20 * a3) (q := 20 * a4) (n := x4) (z := 20 * a3 + x4) (by omega))
  (try unfold lex3)
  (try simp only [bI_0, bI_n, Classical.not_not] at *)
  (try simp (disch := omega) only [i32_id] at *)
  first | done | omega | ((repeat' (with_reducible apply And.intro)) <;> first | assumption | rfl | omega | (rw [g5, show x4 = 20 by omega]; rfl) | (rw [g5, hv]; exact moveC_s (by omega) rfl rfl) | (exact moveC_0 _ _ _ _) | grind [upI])
theorem vX3_copyRow_9_6 (s : MS) (a2 : Int) (a3 : Int) (a4 : Int) (hp : a2 = 20 ∧ (0 ≤ a3 ∧ a3 ≤ 4) ∧ (0 ≤ a4 ∧ a4 ≤ 4) ∧ a3 ≠ a4) : a2 = 20 ∧ a3 = a3 ∧ a4 = a4 ∧ (0 ≤ (0 : Int) ∧ (0 : Int) ≤ 20) ∧ (s.2 9) = moveC (s.2 9) (s.2 9) (20 * a3) (20 * a4) (0 : Int) := by
  obtain ⟨h2, h3, h4, h5⟩ := hp
  (try (have g1 := hI.1; have g2 := hI.2.1; have g3 := hI.2.2.1; have g4 := hI.2.2.2.1; have g5 := hI.2.2.2.2; clear hI; subst x1; subst x2; subst x3))
  (try simp (disch := omega) only [i32_id] at *)
  (try have hv := moveC_at (c := s.2 9) (d := s.2 9) (p := 20 * a3) (q := 20 * a4) (n := x4) (z := 20 * a3 + x4) (by omega))
  (try unfold lex3)
  (try simp only [bI_0, bI_n, Classical.not_not] at *)
  (try simp (disch := omega) only [i32_id] at *)
  first | done | omega | ((repeat' (with_reducible apply And.intro)) <;> first | assumption | rfl | omega | (rw [g5, show x4 = 20 by omega]; rfl) | (rw [g5, hv]; exact moveC_s (by omega) rfl rfl) | (exact moveC_0 _ _ _ _) | grind [upI])
theorem allX3_copyRow_9 (b : AH) (s : MS) (a2 : Int) (a3 : Int) (a4 : Int) (hp : a2 = 20 ∧ (0 ≤ a3 ∧ a3 ≤ 4) ∧ (0 ≤ a4 ∧ a4 ≤ 4) ∧ a3 ≠ a4) : ∀ m1 m2 m3 : Nat, (∀ (x1 : Int) (x2 : Int) (x3 : Int) (x4 : Int) (f9 : Int → Int), m1 = 0 → m2 = 0 → m3 = ((20 - x4).toNat) → (x1 = 20 ∧ x2 = a3 ∧ x3 = a4 ∧ (0 ≤ x4 ∧ x4 ≤ 20) ∧ f9 = moveC (s.2 9) (s.2 9) (20 * a3) (20 * a4) x4) → HX3_copyRow_9_3 (QX3_copyRow_9 s a2 a3 a4) b s x1 x2 x3 x4 f9) := by
  refine lex3_ind ?_
  intro m1 m2 m3 ih
  rintro x1 x2 x3 x4 f9 rfl rfl rfl hI
  refine bX3_copyRow_9_3 b s x1 x2 x3 x4 f9 ?_
  refine ⟨fun c_1 => ?_, fun c_1 => ?_⟩
  · exact ⟨rfl, (sA_c rfl (vX3_copyRow_9_1 s a2 a3 a4 hp x1 x2 x3 x4 f9 hI c_1))⟩
  · have o_2 : (0 ≤ (i32 ((i32 (x1 * x2)) + x4)) ∧ (i32 ((i32 (x1 * x2)) + x4)) < 100) := (vX3_copyRow_9_2 s a2 a3 a4 hp x1 x2 x3 x4 f9 hI c_1)
    refine ⟨o_2, ?_⟩
    have o_3 : (0 ≤ (i32 ((i32 (x1 * x3)) + x4)) ∧ (i32 ((i32 (x1 * x3)) + x4)) < 100) := (vX3_copyRow_9_3 s a2 a3 a4 hp x1 x2 x3 x4 f9 hI c_1 o_2)
    refine ⟨o_3, ?_⟩
    exact (ih _ _ _ (vX3_copyRow_9_5 s a2 a3 a4 hp x1 x2 x3 x4 f9 hI c_1 o_2 o_3)) x1 x2 x3 (i32 (x4 + 1)) (upI f9 (i32 ((i32 (x1 * x3)) + x4)) (f9 (i32 ((i32 (x1 * x2)) + x4)))) rfl rfl rfl (vX3_copyRow_9_4 s a2 a3 a4 hp x1 x2 x3 x4 f9 hI c_1 o_2 o_3)
theorem ctX3_copyRow_9 (b : AH) (s : MS) (a2 : Int) (a3 : Int) (a4 : Int) (hp : a2 = 20 ∧ (0 ≤ a3 ∧ a3 ≤ 4) ∧ (0 ≤ a4 ∧ a4 ≤ 4) ∧ a3 ≠ a4) : MCS mX3_copyRow 1 b s [vR 361, vI a2, vI a3, vI a4] (QX3_copyRow_9 s a2 a3 a4) := by
  refine MCS.of (by decide) rfl (Nat.le_of_ble_eq_true rfl) (JW.steq (s2 := sA s 9 (s.2 9)) (by simp only [sA_id, sS_id]) ?_)
  refine bX3_copyRow_9_0 b s a2 a3 a4 (s.2 9) ?_
  exact (allX3_copyRow_9 b s a2 a3 a4 hp _ _ _) a2 a3 a4 0 (s.2 9) rfl rfl rfl (vX3_copyRow_9_6 s a2 a3 a4 hp)
def HX3_copyTable_0 (Q : Option AV → MS → Prop) (b : AH) (s : MS) (x1 : Int) (x2 : Int) (f5 : Int → Int) (f6 : Int → Int) (f7 : Int → Int) (f8 : Int → Int) (f9 : Int → Int) : Prop := MW mX3_copyTable 2 Q b 0 [(0, vR 351), (1, vI x1), (2, vI x2)] [] (sA (sA (sA (sA (sA s 5 f5) 6 f6) 7 f7) 8 f8) 9 f9)
theorem bX3_copyTable_0 {Q : Option AV → MS → Prop} (b : AH) (s : MS) (x1 : Int) (x2 : Int) (f5 : Int → Int) (f6 : Int → Int) (f7 : Int → Int) (f8 : Int → Int) (f9 : Int → Int) (K : ((1 : Int) = 1 ∧ (0 ≤ x1 ∧ x1 ≤ 4) ∧ (0 ≤ x2 ∧ x2 ≤ 4) ∧ x1 ≠ x2) ∧ (((6 : Int) = 6 ∧ (0 ≤ x1 ∧ x1 ≤ 4) ∧ (0 ≤ x2 ∧ x2 ≤ 4) ∧ x1 ≠ x2) ∧ (((24 : Int) = 24 ∧ (0 ≤ x1 ∧ x1 ≤ 4) ∧ (0 ≤ x2 ∧ x2 ≤ 4) ∧ x1 ≠ x2) ∧ (((20 : Int) = 20 ∧ (0 ≤ x1 ∧ x1 ≤ 4) ∧ (0 ≤ x2 ∧ x2 ≤ 4) ∧ x1 ≠ x2) ∧ (Q none (sA (sA (sA (sA (sA s 5 (cpT 1 x1 x2 f5)) 6 (cpT 6 x1 x2 f6)) 7 (cpT 24 x1 x2 f7)) 8 (cpT 24 x1 x2 f8)) 9 (cpT 20 x1 x2 f9))))))) : HX3_copyTable_0 Q b s x1 x2 f5 f6 f7 f8 f9 := by
  refine JW.aload_n dX3_copyTable_0 rfl ?_
  refine JW.mget (v := vR 357) dX3_copyTable_1 fX3_31 rfl ?_
  refine JW.iconst dX3_copyTable_4 rfl ?_
  refine JW.iload_n dX3_copyTable_5 rfl ?_
  refine JW.iload_n dX3_copyTable_6 rfl ?_
  obtain ⟨o_1, K⟩ := K
  refine JW.mcallS (As := [vR 357, vI 1, vI x1, vI x2]) dX3_copyTable_7 vX3_copyRow q1777 (ctX3_copyRow_5 b (sA (sA (sA (sA (sA s 5 f5) 6 f6) 7 f7) 8 f8) 9 f9) 1 x1 x2 o_1) (Nat.le_of_ble_eq_true rfl) rfl (Nat.le_of_ble_eq_true rfl) ?_
  rintro _ _ ⟨rfl, rfl⟩
  refine JW.steq (s2 := sA (sA (sA (sA (sA s 5 (cpT 1 x1 x2 f5)) 6 f6) 7 f7) 8 f8) 9 f9) (by simp only [sA_A, sS_S, sA_S, sA_lt, sS_lt, Nat.reduceLT, id_eq] <;> rfl) ?_
  refine JW.aload_n dX3_copyTable_10 rfl ?_
  refine JW.mget (v := vR 358) dX3_copyTable_11 fX3_34 rfl ?_
  refine JW.bipush dX3_copyTable_14 rfl ?_
  refine JW.iload_n dX3_copyTable_16 rfl ?_
  refine JW.iload_n dX3_copyTable_17 rfl ?_
  obtain ⟨o_3, K⟩ := K
  refine JW.mcallS (As := [vR 358, vI 6, vI x1, vI x2]) dX3_copyTable_18 vX3_copyRow q1777 (ctX3_copyRow_6 b (sA (sA (sA (sA (sA s 5 (cpT 1 x1 x2 f5)) 6 f6) 7 f7) 8 f8) 9 f9) 6 x1 x2 o_3) (Nat.le_of_ble_eq_true rfl) rfl (Nat.le_of_ble_eq_true rfl) ?_
  rintro _ _ ⟨rfl, rfl⟩
  refine JW.steq (s2 := sA (sA (sA (sA (sA s 5 (cpT 1 x1 x2 f5)) 6 (cpT 6 x1 x2 f6)) 7 f7) 8 f8) 9 f9) (by simp only [sA_A, sS_S, sA_S, sA_lt, sS_lt, Nat.reduceLT, id_eq] <;> rfl) ?_
  refine JW.aload_n dX3_copyTable_21 rfl ?_
  refine JW.mget (v := vR 359) dX3_copyTable_22 fX3_37 rfl ?_
  refine JW.bipush dX3_copyTable_25 rfl ?_
  refine JW.iload_n dX3_copyTable_27 rfl ?_
  refine JW.iload_n dX3_copyTable_28 rfl ?_
  obtain ⟨o_5, K⟩ := K
  refine JW.mcallS (As := [vR 359, vI 24, vI x1, vI x2]) dX3_copyTable_29 vX3_copyRow q1777 (ctX3_copyRow_7 b (sA (sA (sA (sA (sA s 5 (cpT 1 x1 x2 f5)) 6 (cpT 6 x1 x2 f6)) 7 f7) 8 f8) 9 f9) 24 x1 x2 o_5) (Nat.le_of_ble_eq_true rfl) rfl (Nat.le_of_ble_eq_true rfl) ?_
  rintro _ _ ⟨rfl, rfl⟩
  refine JW.steq (s2 := sA (sA (sA (sA (sA s 5 (cpT 1 x1 x2 f5)) 6 (cpT 6 x1 x2 f6)) 7 (cpT 24 x1 x2 f7)) 8 f8) 9 f9) (by simp only [sA_A, sS_S, sA_S, sA_lt, sS_lt, Nat.reduceLT, id_eq] <;> rfl) ?_
  refine JW.aload_n dX3_copyTable_32 rfl ?_
  refine JW.mget (v := vR 360) dX3_copyTable_33 fX3_40 rfl ?_
  refine JW.bipush dX3_copyTable_36 rfl ?_
  refine JW.iload_n dX3_copyTable_38 rfl ?_
  refine JW.iload_n dX3_copyTable_39 rfl ?_
  refine JW.mcallS (As := [vR 360, vI 24, vI x1, vI x2]) dX3_copyTable_40 vX3_copyRow q1777 (ctX3_copyRow_8 b (sA (sA (sA (sA (sA s 5 (cpT 1 x1 x2 f5)) 6 (cpT 6 x1 x2 f6)) 7 (cpT 24 x1 x2 f7)) 8 f8) 9 f9) 24 x1 x2 o_5) (Nat.le_of_ble_eq_true rfl) rfl (Nat.le_of_ble_eq_true rfl) ?_
  rintro _ _ ⟨rfl, rfl⟩
  refine JW.steq (s2 := sA (sA (sA (sA (sA s 5 (cpT 1 x1 x2 f5)) 6 (cpT 6 x1 x2 f6)) 7 (cpT 24 x1 x2 f7)) 8 (cpT 24 x1 x2 f8)) 9 f9) (by simp only [sA_A, sS_S, sA_S, sA_lt, sS_lt, Nat.reduceLT, id_eq] <;> rfl) ?_
  refine JW.aload_n dX3_copyTable_43 rfl ?_
  refine JW.mget (v := vR 361) dX3_copyTable_44 fX3_43 rfl ?_
  refine JW.bipush dX3_copyTable_47 rfl ?_
  refine JW.iload_n dX3_copyTable_49 rfl ?_
  refine JW.iload_n dX3_copyTable_50 rfl ?_
  obtain ⟨o_8, K⟩ := K
  refine JW.mcallS (As := [vR 361, vI 20, vI x1, vI x2]) dX3_copyTable_51 vX3_copyRow q1777 (ctX3_copyRow_9 b (sA (sA (sA (sA (sA s 5 (cpT 1 x1 x2 f5)) 6 (cpT 6 x1 x2 f6)) 7 (cpT 24 x1 x2 f7)) 8 (cpT 24 x1 x2 f8)) 9 f9) 20 x1 x2 o_8) (Nat.le_of_ble_eq_true rfl) rfl (Nat.le_of_ble_eq_true rfl) ?_
  rintro _ _ ⟨rfl, rfl⟩
  refine JW.steq (s2 := sA (sA (sA (sA (sA s 5 (cpT 1 x1 x2 f5)) 6 (cpT 6 x1 x2 f6)) 7 (cpT 24 x1 x2 f7)) 8 (cpT 24 x1 x2 f8)) 9 (cpT 20 x1 x2 f9)) (by simp only [sA_A, sS_S, sA_S, sA_lt, sS_lt, Nat.reduceLT, id_eq] <;> rfl) ?_
  exact JW.vreturn dX3_copyTable_54 rfl ⟨_, rfl, K⟩
def QX3_copyTable (s : MS) (a1 : Int) (a2 : Int) : Option AV → MS → Prop := fun v s' => v = none ∧ s' = sA (sA (sA (sA (sA s 5 (cpT 1 a1 a2 (s.2 5))) 6 (cpT 6 a1 a2 (s.2 6))) 7 (cpT 24 a1 a2 (s.2 7))) 8 (cpT 24 a1 a2 (s.2 8))) 9 (cpT 20 a1 a2 (s.2 9))
theorem vX3_copyTable_1 (s : MS) (a1 : Int) (a2 : Int) (hp : (0 ≤ a1 ∧ a1 ≤ 4) ∧ (0 ≤ a2 ∧ a2 ≤ 4) ∧ a1 ≠ a2) : ((1 : Int) = 1 ∧ (0 ≤ a1 ∧ a1 ≤ 4) ∧ (0 ≤ a2 ∧ a2 ≤ 4) ∧ a1 ≠ a2) := by
  (try unfold lex3)
  (try simp only [bI_0, bI_n, Classical.not_not] at *)
  (try simp (disch := omega) only [i32_id] at *)
  first | done | omega | ((repeat' (with_reducible apply And.intro)) <;> first | assumption | rfl | omega | grind [upI])
theorem vX3_copyTable_2 (s : MS) (a1 : Int) (a2 : Int) (hp : (0 ≤ a1 ∧ a1 ≤ 4) ∧ (0 ≤ a2 ∧ a2 ≤ 4) ∧ a1 ≠ a2) (o_1 : ((1 : Int) = 1 ∧ (0 ≤ a1 ∧ a1 ≤ 4) ∧ (0 ≤ a2 ∧ a2 ≤ 4) ∧ a1 ≠ a2)) : ((6 : Int) = 6 ∧ (0 ≤ a1 ∧ a1 ≤ 4) ∧ (0 ≤ a2 ∧ a2 ≤ 4) ∧ a1 ≠ a2) := by
  (try unfold lex3)
  (try simp only [bI_0, bI_n, Classical.not_not] at *)
  (try simp (disch := omega) only [i32_id] at *)
  first | done | omega | ((repeat' (with_reducible apply And.intro)) <;> first | assumption | rfl | omega | grind [upI])
theorem vX3_copyTable_3 (s : MS) (a1 : Int) (a2 : Int) (hp : (0 ≤ a1 ∧ a1 ≤ 4) ∧ (0 ≤ a2 ∧ a2 ≤ 4) ∧ a1 ≠ a2) (o_1 : ((1 : Int) = 1 ∧ (0 ≤ a1 ∧ a1 ≤ 4) ∧ (0 ≤ a2 ∧ a2 ≤ 4) ∧ a1 ≠ a2)) (o_3 : ((6 : Int) = 6 ∧ (0 ≤ a1 ∧ a1 ≤ 4) ∧ (0 ≤ a2 ∧ a2 ≤ 4) ∧ a1 ≠ a2)) : ((24 : Int) = 24 ∧ (0 ≤ a1 ∧ a1 ≤ 4) ∧ (0 ≤ a2 ∧ a2 ≤ 4) ∧ a1 ≠ a2) := by
  (try unfold lex3)
  (try simp only [bI_0, bI_n, Classical.not_not] at *)
  (try simp (disch := omega) only [i32_id] at *)
  first | done | omega | ((repeat' (with_reducible apply And.intro)) <;> first | assumption | rfl | omega | grind [upI])
theorem vX3_copyTable_4 (s : MS) (a1 : Int) (a2 : Int) (hp : (0 ≤ a1 ∧ a1 ≤ 4) ∧ (0 ≤ a2 ∧ a2 ≤ 4) ∧ a1 ≠ a2) (o_1 : ((1 : Int) = 1 ∧ (0 ≤ a1 ∧ a1 ≤ 4) ∧ (0 ≤ a2 ∧ a2 ≤ 4) ∧ a1 ≠ a2)) (o_3 : ((6 : Int) = 6 ∧ (0 ≤ a1 ∧ a1 ≤ 4) ∧ (0 ≤ a2 ∧ a2 ≤ 4) ∧ a1 ≠ a2)) (o_5 : ((24 : Int) = 24 ∧ (0 ≤ a1 ∧ a1 ≤ 4) ∧ (0 ≤ a2 ∧ a2 ≤ 4) ∧ a1 ≠ a2)) : ((20 : Int) = 20 ∧ (0 ≤ a1 ∧ a1 ≤ 4) ∧ (0 ≤ a2 ∧ a2 ≤ 4) ∧ a1 ≠ a2) := by
  (try unfold lex3)
  (try simp only [bI_0, bI_n, Classical.not_not] at *)
  (try simp (disch := omega) only [i32_id] at *)
  first | done | omega | ((repeat' (with_reducible apply And.intro)) <;> first | assumption | rfl | omega | grind [upI])
theorem ctX3_copyTable (b : AH) (s : MS) (a1 : Int) (a2 : Int) (hp : (0 ≤ a1 ∧ a1 ≤ 4) ∧ (0 ≤ a2 ∧ a2 ≤ 4) ∧ a1 ≠ a2) : MC mX3_copyTable 2 b s [vI a1, vI a2] (QX3_copyTable s a1 a2) := by
  refine MC.of (by decide) rfl (Nat.le_of_ble_eq_true rfl) (JW.steq (s2 := sA (sA (sA (sA (sA s 5 (s.2 5)) 6 (s.2 6)) 7 (s.2 7)) 8 (s.2 8)) 9 (s.2 9)) (by simp only [sA_id, sS_id]) ?_)
  refine bX3_copyTable_0 b s a1 a2 (s.2 5) (s.2 6) (s.2 7) (s.2 8) (s.2 9) ?_
  have o_1 : ((1 : Int) = 1 ∧ (0 ≤ a1 ∧ a1 ≤ 4) ∧ (0 ≤ a2 ∧ a2 ≤ 4) ∧ a1 ≠ a2) := (vX3_copyTable_1 s a1 a2 hp)
  refine ⟨o_1, ?_⟩
  have o_3 : ((6 : Int) = 6 ∧ (0 ≤ a1 ∧ a1 ≤ 4) ∧ (0 ≤ a2 ∧ a2 ≤ 4) ∧ a1 ≠ a2) := (vX3_copyTable_2 s a1 a2 hp o_1)
  refine ⟨o_3, ?_⟩
  have o_5 : ((24 : Int) = 24 ∧ (0 ≤ a1 ∧ a1 ≤ 4) ∧ (0 ≤ a2 ∧ a2 ≤ 4) ∧ a1 ≠ a2) := (vX3_copyTable_3 s a1 a2 hp o_1 o_3)
  refine ⟨o_5, ?_⟩
  have o_8 : ((20 : Int) = 20 ∧ (0 ≤ a1 ∧ a1 ≤ 4) ∧ (0 ≤ a2 ∧ a2 ≤ 4) ∧ a1 ≠ a2) := (vX3_copyTable_4 s a1 a2 hp o_1 o_3 o_5)
  refine ⟨o_8, ?_⟩
  exact ⟨rfl, rfl⟩
