/-! contracts of the reference: slipped slip fits -/
set_option maxRecDepth 100000
def HX3_slipped_0 (Q : Option AV → MS → Prop) (b : AH) (s : MS) (x1 : Int) (x2 : Int) (x3 : Int) (f11 : Int → Int) (f12 : Int → Int) (k25 : Int) : Prop := MW mX3_slipped 5 Q b 0 [(0, vR 351), (1, vI x1), (2, vI x2), (3, vI x3)] [] (sS (sA (sA s 11 f11) 12 f12) 25 k25)
def HX3_slipped_57 (Q : Option AV → MS → Prop) (b : AH) (s : MS) (x2 : Int) (x3 : Int) (x4 : Int) (x5 : Int) (f11 : Int → Int) (f12 : Int → Int) (k25 : Int) : Prop := MW mX3_slipped 5 Q b 57 [(0, vR 351), (2, vI x2), (3, vI x3), (4, vI x4), (5, vI x5)] [] (sS (sA (sA s 11 f11) 12 f12) 25 k25)
theorem bX3_slipped_0 {Q : Option AV → MS → Prop} (b : AH) (s : MS) (x1 : Int) (x2 : Int) (x3 : Int) (f11 : Int → Int) (f12 : Int → Int) (k25 : Int) (K : (0 ≤ (i32 (2 * x2)) ∧ (i32 (2 * x2)) < 120) ∧ ((0 ≤ (i32 ((i32 (4 * x3)) + 2)) ∧ (i32 ((i32 (4 * x3)) + 2)) < 120) ∧ ((¬ (s.2 7 (i32 (2 * x2))) = (s.2 8 (i32 ((i32 (4 * x3)) + 2))) → Q (some (vI (-1))) (sS (sA (sA s 11 f11) 12 f12) 25 k25)) ∧ ((s.2 7 (i32 (2 * x2))) = (s.2 8 (i32 ((i32 (4 * x3)) + 2))) → (0 ≤ (i32 ((i32 (2 * x2)) + 1)) ∧ (i32 ((i32 (2 * x2)) + 1)) < 120) ∧ ((0 ≤ (i32 ((i32 (4 * x3)) + 3)) ∧ (i32 ((i32 (4 * x3)) + 3)) < 120) ∧ (((s.2 7 (i32 ((i32 (2 * x2)) + 1))) = (s.2 8 (i32 ((i32 (4 * x3)) + 3))) → HX3_slipped_57 Q b s x2 x3 x1 0 f11 f12 x1) ∧ (¬ (s.2 7 (i32 ((i32 (2 * x2)) + 1))) = (s.2 8 (i32 ((i32 (4 * x3)) + 3))) → Q (some (vI (-1))) (sS (sA (sA s 11 f11) 12 f12) 25 k25)))))))) : HX3_slipped_0 Q b s x1 x2 x3 f11 f12 k25 := by
  refine JW.aload_n dX3_slipped_0 rfl ?_
  refine JW.mget (v := vR 359) dX3_slipped_1 fX3_37 rfl ?_
  refine JW.iconst dX3_slipped_4 rfl ?_
  refine JW.iload_n dX3_slipped_5 rfl ?_
  refine JW.imul dX3_slipped_6 ?_
  obtain ⟨o_1, K⟩ := K
  refine JW.mald 7 (x := (s.2 7 (i32 (2 * x2)))) dX3_slipped_7 (Nat.le_of_ble_eq_true rfl) rfl o_1.1 o_1.2 rfl ?_
  refine JW.aload_n dX3_slipped_8 rfl ?_
  refine JW.mget (v := vR 360) dX3_slipped_9 fX3_40 rfl ?_
  refine JW.iconst dX3_slipped_12 rfl ?_
  refine JW.iload_n dX3_slipped_13 rfl ?_
  refine JW.imul dX3_slipped_14 ?_
  refine JW.iconst dX3_slipped_15 rfl ?_
  refine JW.iadd dX3_slipped_16 ?_
  obtain ⟨o_2, K⟩ := K
  refine JW.mald 8 (x := (s.2 8 (i32 ((i32 (4 * x3)) + 2)))) dX3_slipped_17 (Nat.le_of_ble_eq_true rfl) rfl o_2.1 o_2.2 rfl ?_
  refine JW.icmp_ne (tgt := 44) dX3_slipped_18 rfl (fun c_3 => ?_) (fun c_3 => ?_)
  · have K := K.1 c_3
    refine JW.iconst dX3_slipped_44 rfl ?_
    exact JW.ireturn dX3_slipped_45 rfl rfl ⟨_, rfl, K⟩
  · have K := K.2 c_3
    refine JW.aload_n dX3_slipped_21 rfl ?_
    refine JW.mget (v := vR 359) dX3_slipped_22 fX3_37 rfl ?_
    refine JW.iconst dX3_slipped_25 rfl ?_
    refine JW.iload_n dX3_slipped_26 rfl ?_
    refine JW.imul dX3_slipped_27 ?_
    refine JW.iconst dX3_slipped_28 rfl ?_
    refine JW.iadd dX3_slipped_29 ?_
    obtain ⟨o_4, K⟩ := K
    refine JW.mald 7 (x := (s.2 7 (i32 ((i32 (2 * x2)) + 1)))) dX3_slipped_30 (Nat.le_of_ble_eq_true rfl) rfl o_4.1 o_4.2 rfl ?_
    refine JW.aload_n dX3_slipped_31 rfl ?_
    refine JW.mget (v := vR 360) dX3_slipped_32 fX3_40 rfl ?_
    refine JW.iconst dX3_slipped_35 rfl ?_
    refine JW.iload_n dX3_slipped_36 rfl ?_
    refine JW.imul dX3_slipped_37 ?_
    refine JW.iconst dX3_slipped_38 rfl ?_
    refine JW.iadd dX3_slipped_39 ?_
    obtain ⟨o_5, K⟩ := K
    refine JW.mald 8 (x := (s.2 8 (i32 ((i32 (4 * x3)) + 3)))) dX3_slipped_40 (Nat.le_of_ble_eq_true rfl) rfl o_5.1 o_5.2 rfl ?_
    refine JW.icmp_eq (tgt := 46) dX3_slipped_41 rfl (fun c_6 => ?_) (fun c_6 => ?_)
    · have K := K.1 c_6
      refine JW.aload_n dX3_slipped_46 rfl ?_
      refine JW.iload_n dX3_slipped_47 rfl ?_
      refine JW.mputI dX3_slipped_48 (pX3_274 _) rfl ?_
      refine JW.steq (s2 := sS (sA (sA s 11 f11) 12 f12) 25 x1) (by simp only [sA_A, sS_S, sA_S, sA_lt, sS_lt, Nat.reduceLT, id_eq] <;> rfl) ?_
      refine JW.iload_n dX3_slipped_51 rfl ?_
      refine JW.istore (ls' := [(0, vR 351), (1, vI x1), (2, vI x2), (3, vI x3), (4, vI x1)]) dX3_slipped_52 (Nat.le_of_ble_eq_true rfl) rfl ?_
      refine JW.iconst dX3_slipped_54 rfl ?_
      refine JW.istore (ls' := [(0, vR 351), (1, vI x1), (2, vI x2), (3, vI x3), (4, vI x1), (5, vI 0)]) dX3_slipped_55 (Nat.le_of_ble_eq_true rfl) rfl ?_
      exact JW.pick [0, 2, 3, 4, 5] rfl K
    · have K := K.2 c_6
      refine JW.iconst dX3_slipped_44 rfl ?_
      exact JW.ireturn dX3_slipped_45 rfl rfl ⟨_, rfl, K⟩
theorem bX3_slipped_57 {Q : Option AV → MS → Prop} (b : AH) (s : MS) (x2 : Int) (x3 : Int) (x4 : Int) (x5 : Int) (f11 : Int → Int) (f12 : Int → Int) (k25 : Int) (K : ((s.2 6 3) ≤ x5 → Q (some (vI x4)) (sS (sA (sA s 11 f11) 12 f12) 25 k25)) ∧ (¬ (s.2 6 3) ≤ x5 → (¬ x5 = x2 → (0 ≤ (i32 (2 * x5)) ∧ (i32 (2 * x5)) < 120) ∧ ((0 ≤ (i32 ((i32 (2 * x5)) + 1)) ∧ (i32 ((i32 (2 * x5)) + 1)) < 120) ∧ ((tOK (s.2 6) ∧ 0 ≤ x4 ∧ x4 < (s.2 6) 2 ∧ (0 ≤ k25 ∧ k25 < (s.2 6) 2) ∧ wOK ((s.2 6) 0) (s.2 7 (i32 (2 * x5))) (s.2 7 (i32 ((i32 (2 * x5)) + 1)))) ∧ ((∀ (f_6 : Int → Int) (f_7 : Int → Int), HX3_slipped_57 Q b s x2 x3 (wdo (s.2 6) k25 x4 (s.2 7 (i32 (2 * x5))) (s.2 7 (i32 ((i32 (2 * x5)) + 1)))) (i32 (x5 + 1)) f_6 f_7 (wkp k25 x4 (s.2 7 (i32 (2 * x5))))))))) ∧ (x5 = x2 → (0 ≤ (i32 (4 * x3)) ∧ (i32 (4 * x3)) < 120) ∧ ((0 ≤ (i32 ((i32 (4 * x3)) + 1)) ∧ (i32 ((i32 (4 * x3)) + 1)) < 120) ∧ ((tOK (s.2 6) ∧ 0 ≤ x4 ∧ x4 < (s.2 6) 2 ∧ (0 ≤ k25 ∧ k25 < (s.2 6) 2) ∧ wOK ((s.2 6) 0) (s.2 8 (i32 (4 * x3))) (s.2 8 (i32 ((i32 (4 * x3)) + 1)))) ∧ ((∀ (f_12 : Int → Int) (f_13 : Int → Int), HX3_slipped_57 Q b s x2 x3 (wdo (s.2 6) k25 x4 (s.2 8 (i32 (4 * x3))) (s.2 8 (i32 ((i32 (4 * x3)) + 1)))) (i32 (x5 + 1)) f_12 f_13 (wkp k25 x4 (s.2 8 (i32 (4 * x3))))))))))) : HX3_slipped_57 Q b s x2 x3 x4 x5 f11 f12 k25 := by
  refine JW.iload dX3_slipped_57 rfl ?_
  refine JW.aload_n dX3_slipped_59 rfl ?_
  refine JW.mget (v := vR 358) dX3_slipped_60 fX3_34 rfl ?_
  refine JW.iconst dX3_slipped_63 rfl ?_
  refine JW.mald 6 (x := (s.2 6 3)) dX3_slipped_64 (Nat.le_of_ble_eq_true rfl) rfl (by decide) (by decide) rfl ?_
  refine JW.icmp_ge (tgt := 135) dX3_slipped_65 rfl (fun c_1 => ?_) (fun c_1 => ?_)
  · have K := K.1 c_1
    refine JW.iload dX3_slipped_135 rfl ?_
    exact JW.ireturn dX3_slipped_137 rfl rfl ⟨_, rfl, K⟩
  · have K := K.2 c_1
    refine JW.iload dX3_slipped_68 rfl ?_
    refine JW.iload_n dX3_slipped_70 rfl ?_
    refine JW.icmp_ne (tgt := 101) dX3_slipped_71 rfl (fun c_2 => ?_) (fun c_2 => ?_)
    · have K := K.1 c_2
      refine JW.aload_n dX3_slipped_101 rfl ?_
      refine JW.iload dX3_slipped_102 rfl ?_
      refine JW.aload_n dX3_slipped_104 rfl ?_
      refine JW.mget (v := vR 359) dX3_slipped_105 fX3_37 rfl ?_
      refine JW.iconst dX3_slipped_108 rfl ?_
      refine JW.iload dX3_slipped_109 rfl ?_
      refine JW.imul dX3_slipped_111 ?_
      obtain ⟨o_3, K⟩ := K
      refine JW.mald 7 (x := (s.2 7 (i32 (2 * x5)))) dX3_slipped_112 (Nat.le_of_ble_eq_true rfl) rfl o_3.1 o_3.2 rfl ?_
      refine JW.aload_n dX3_slipped_113 rfl ?_
      refine JW.mget (v := vR 359) dX3_slipped_114 fX3_37 rfl ?_
      refine JW.iconst dX3_slipped_117 rfl ?_
      refine JW.iload dX3_slipped_118 rfl ?_
      refine JW.imul dX3_slipped_120 ?_
      refine JW.iconst dX3_slipped_121 rfl ?_
      refine JW.iadd dX3_slipped_122 ?_
      obtain ⟨o_4, K⟩ := K
      refine JW.mald 7 (x := (s.2 7 (i32 ((i32 (2 * x5)) + 1)))) dX3_slipped_123 (Nat.le_of_ble_eq_true rfl) rfl o_4.1 o_4.2 rfl ?_
      obtain ⟨o_5, K⟩ := K
      refine JW.mcall (As := [vI x4, vI (s.2 7 (i32 (2 * x5))), vI (s.2 7 (i32 ((i32 (2 * x5)) + 1)))]) dX3_slipped_124 vX3_does rfl q1822 (ctX3_does b (sS (sA (sA s 11 f11) 12 f12) 25 k25) x4 (s.2 7 (i32 (2 * x5))) (s.2 7 (i32 ((i32 (2 * x5)) + 1))) o_5) (Nat.le_of_ble_eq_true rfl) rfl (Nat.le_of_ble_eq_true rfl) ?_
      rintro _ _ ⟨f_6, f_7, rfl, rfl⟩
      refine JW.steq (s2 := sS (sA (sA s 11 f_6) 12 f_7) 25 (wkp k25 x4 (s.2 7 (i32 (2 * x5))))) (by simp only [sA_A, sS_S, sA_S, sA_lt, sS_lt, Nat.reduceLT, id_eq] <;> rfl) ?_
      replace K := K f_6 f_7
      refine JW.istore (ls' := [(0, vR 351), (2, vI x2), (3, vI x3), (4, vI (wdo (s.2 6) k25 x4 (s.2 7 (i32 (2 * x5))) (s.2 7 (i32 ((i32 (2 * x5)) + 1))))), (5, vI x5)]) dX3_slipped_127 (Nat.le_of_ble_eq_true rfl) rfl ?_
      refine JW.iinc (ls' := [(0, vR 351), (2, vI x2), (3, vI x3), (4, vI (wdo (s.2 6) k25 x4 (s.2 7 (i32 (2 * x5))) (s.2 7 (i32 ((i32 (2 * x5)) + 1))))), (5, vI (i32 (x5 + 1)))]) dX3_slipped_129 (Nat.le_of_ble_eq_true rfl) rfl rfl ?_
      refine JW.goto (tgt := 57) dX3_slipped_132 rfl ?_
      exact JW.pick [0, 2, 3, 4, 5] rfl K
    · have K := K.2 c_2
      refine JW.aload_n dX3_slipped_74 rfl ?_
      refine JW.iload dX3_slipped_75 rfl ?_
      refine JW.aload_n dX3_slipped_77 rfl ?_
      refine JW.mget (v := vR 360) dX3_slipped_78 fX3_40 rfl ?_
      refine JW.iconst dX3_slipped_81 rfl ?_
      refine JW.iload_n dX3_slipped_82 rfl ?_
      refine JW.imul dX3_slipped_83 ?_
      obtain ⟨o_9, K⟩ := K
      refine JW.mald 8 (x := (s.2 8 (i32 (4 * x3)))) dX3_slipped_84 (Nat.le_of_ble_eq_true rfl) rfl o_9.1 o_9.2 rfl ?_
      refine JW.aload_n dX3_slipped_85 rfl ?_
      refine JW.mget (v := vR 360) dX3_slipped_86 fX3_40 rfl ?_
      refine JW.iconst dX3_slipped_89 rfl ?_
      refine JW.iload_n dX3_slipped_90 rfl ?_
      refine JW.imul dX3_slipped_91 ?_
      refine JW.iconst dX3_slipped_92 rfl ?_
      refine JW.iadd dX3_slipped_93 ?_
      obtain ⟨o_10, K⟩ := K
      refine JW.mald 8 (x := (s.2 8 (i32 ((i32 (4 * x3)) + 1)))) dX3_slipped_94 (Nat.le_of_ble_eq_true rfl) rfl o_10.1 o_10.2 rfl ?_
      obtain ⟨o_11, K⟩ := K
      refine JW.mcall (As := [vI x4, vI (s.2 8 (i32 (4 * x3))), vI (s.2 8 (i32 ((i32 (4 * x3)) + 1)))]) dX3_slipped_95 vX3_does rfl q1822 (ctX3_does b (sS (sA (sA s 11 f11) 12 f12) 25 k25) x4 (s.2 8 (i32 (4 * x3))) (s.2 8 (i32 ((i32 (4 * x3)) + 1))) o_11) (Nat.le_of_ble_eq_true rfl) rfl (Nat.le_of_ble_eq_true rfl) ?_
      rintro _ _ ⟨f_12, f_13, rfl, rfl⟩
      refine JW.steq (s2 := sS (sA (sA s 11 f_12) 12 f_13) 25 (wkp k25 x4 (s.2 8 (i32 (4 * x3))))) (by simp only [sA_A, sS_S, sA_S, sA_lt, sS_lt, Nat.reduceLT, id_eq] <;> rfl) ?_
      replace K := K f_12 f_13
      refine JW.goto (tgt := 127) dX3_slipped_98 rfl ?_
      refine JW.istore (ls' := [(0, vR 351), (2, vI x2), (3, vI x3), (4, vI (wdo (s.2 6) k25 x4 (s.2 8 (i32 (4 * x3))) (s.2 8 (i32 ((i32 (4 * x3)) + 1))))), (5, vI x5)]) dX3_slipped_127 (Nat.le_of_ble_eq_true rfl) rfl ?_
      refine JW.iinc (ls' := [(0, vR 351), (2, vI x2), (3, vI x3), (4, vI (wdo (s.2 6) k25 x4 (s.2 8 (i32 (4 * x3))) (s.2 8 (i32 ((i32 (4 * x3)) + 1))))), (5, vI (i32 (x5 + 1)))]) dX3_slipped_129 (Nat.le_of_ble_eq_true rfl) rfl rfl ?_
      refine JW.goto (tgt := 57) dX3_slipped_132 rfl ?_
      exact JW.pick [0, 2, 3, 4, 5] rfl K
def QX3_slipped (s : MS) (a1 : Int) (a2 : Int) (a3 : Int) : Option AV → MS → Prop := fun v s' => ∃ (f11 : Int → Int) (f12 : Int → Int) (k25 : Int), v = some (vI (slpV (s.2 6) (s.2 7) (s.2 8) a1 a2 a3)) ∧ s' = sS (sA (sA s 11 f11) 12 f12) 25 k25
theorem vX3_slipped_1 (s : MS) (a1 : Int) (a2 : Int) (a3 : Int) (hp : tOK (s.2 6) ∧ aOK (s.2 6) (s.2 7) ∧ sOK (s.2 6) (s.2 8) ∧ (0 ≤ a1 ∧ a1 < (s.2 6) 2) ∧ (0 ≤ a2 ∧ a2 < (s.2 6) 3) ∧ (0 ≤ a3 ∧ a3 < (s.2 6) 4)) (x2 : Int) (x3 : Int) (x4 : Int) (x5 : Int) (f11 : Int → Int) (f12 : Int → Int) (k25 : Int) (hI : x2 = a2 ∧ x3 = a3 ∧ (0 ≤ x5 ∧ x5 ≤ s.2 6 3) ∧ x4 = (thrS (s.2 6) (subA (s.2 7) (s.2 8) a2 a3) a1 x5.toNat).2 ∧ k25 = (thrS (s.2 6) (subA (s.2 7) (s.2 8) a2 a3) a1 x5.toNat).1 ∧ ¬ (s.2 7 (2 * a2) ≠ s.2 8 (4 * a3 + 2) ∨ s.2 7 (2 * a2 + 1) ≠ s.2 8 (4 * a3 + 3))) (c_1 : (s.2 6 3) ≤ x5) : x4 = (slpV (s.2 6) (s.2 7) (s.2 8) a1 a2 a3) := by
  obtain ⟨ht, ha, hs, h1, h2, h3⟩ := hp
  have hW := tOK_W ht
  have hS := tOK_S ht
  have hN := tOK_N ht
  (try (have b := thrS_b (a := (subA (s.2 7) (s.2 8) a2 a3)) h1 x5.toNat; rw [← hI.2.2.2.1, ← hI.2.2.2.2.1] at b))
  (try have hst := thrS_s (s.2 6) (subA (s.2 7) (s.2 8) a2 a3) a1 hI.2.2.1.1)
  (try unfold lex3)
  (try simp only [bI_0, bI_n, Classical.not_not] at *)
  (try simp (disch := omega) only [i32_id] at *)
  first | done | omega | ((repeat' (with_reducible apply And.intro)) <;> first | assumption | rfl | omega | (exact hI.2.2.2.2.2) | (unfold slpV; rw [if_neg hI.2.2.2.2.2, hI.2.2.2.1, show x5 = s.2 6 3 by omega]) | (exact ha x5 (by omega) (by omega)) | (rw [hI.2.1]; exact (hs a3 h3.1 h3.2).1) | (have e := subA_n (s.2 7) (s.2 8) (i := a2) (s := a3) (k := x5) (by omega); rw [e.1, e.2] at hst; rw [hst, hI.2.2.2.1, hI.2.2.2.2.1]) | (have e : subA (s.2 7) (s.2 8) a2 a3 (2 * x5) = s.2 8 (4 * a3) ∧ subA (s.2 7) (s.2 8) a2 a3 (2 * x5 + 1) = s.2 8 (4 * a3 + 1) := (by rw [show x5 = a2 by omega]; exact subA_y _ _ _ _); rw [e.1, e.2] at hst; rw [hst, hI.2.2.2.1, hI.2.2.2.2.1, hI.2.1]) | (unfold slpV; rw [if_pos (Or.inl c_3)]) | (unfold slpV; rw [if_pos (Or.inr c_6)]) | (exact fun h => h.elim (fun q => q c_3) (fun q => q c_6)) | grind [upI])
theorem vX3_slipped_2 (s : MS) (a1 : Int) (a2 : Int) (a3 : Int) (hp : tOK (s.2 6) ∧ aOK (s.2 6) (s.2 7) ∧ sOK (s.2 6) (s.2 8) ∧ (0 ≤ a1 ∧ a1 < (s.2 6) 2) ∧ (0 ≤ a2 ∧ a2 < (s.2 6) 3) ∧ (0 ≤ a3 ∧ a3 < (s.2 6) 4)) (x2 : Int) (x3 : Int) (x4 : Int) (x5 : Int) (f11 : Int → Int) (f12 : Int → Int) (k25 : Int) (hI : x2 = a2 ∧ x3 = a3 ∧ (0 ≤ x5 ∧ x5 ≤ s.2 6 3) ∧ x4 = (thrS (s.2 6) (subA (s.2 7) (s.2 8) a2 a3) a1 x5.toNat).2 ∧ k25 = (thrS (s.2 6) (subA (s.2 7) (s.2 8) a2 a3) a1 x5.toNat).1 ∧ ¬ (s.2 7 (2 * a2) ≠ s.2 8 (4 * a3 + 2) ∨ s.2 7 (2 * a2 + 1) ≠ s.2 8 (4 * a3 + 3))) (c_1 : ¬ (s.2 6 3) ≤ x5) (c_2 : ¬ x5 = x2) : (0 ≤ (i32 (2 * x5)) ∧ (i32 (2 * x5)) < 120) := by
  obtain ⟨ht, ha, hs, h1, h2, h3⟩ := hp
  have hW := tOK_W ht
  have hS := tOK_S ht
  have hN := tOK_N ht
  (try (have b := thrS_b (a := (subA (s.2 7) (s.2 8) a2 a3)) h1 x5.toNat; rw [← hI.2.2.2.1, ← hI.2.2.2.2.1] at b))
  (try have hst := thrS_s (s.2 6) (subA (s.2 7) (s.2 8) a2 a3) a1 hI.2.2.1.1)
  (try unfold lex3)
  (try simp only [bI_0, bI_n, Classical.not_not] at *)
  (try simp (disch := omega) only [i32_id] at *)
  first | done | omega | ((repeat' (with_reducible apply And.intro)) <;> first | assumption | rfl | omega | (exact hI.2.2.2.2.2) | (unfold slpV; rw [if_neg hI.2.2.2.2.2, hI.2.2.2.1, show x5 = s.2 6 3 by omega]) | (exact ha x5 (by omega) (by omega)) | (rw [hI.2.1]; exact (hs a3 h3.1 h3.2).1) | (have e := subA_n (s.2 7) (s.2 8) (i := a2) (s := a3) (k := x5) (by omega); rw [e.1, e.2] at hst; rw [hst, hI.2.2.2.1, hI.2.2.2.2.1]) | (have e : subA (s.2 7) (s.2 8) a2 a3 (2 * x5) = s.2 8 (4 * a3) ∧ subA (s.2 7) (s.2 8) a2 a3 (2 * x5 + 1) = s.2 8 (4 * a3 + 1) := (by rw [show x5 = a2 by omega]; exact subA_y _ _ _ _); rw [e.1, e.2] at hst; rw [hst, hI.2.2.2.1, hI.2.2.2.2.1, hI.2.1]) | (unfold slpV; rw [if_pos (Or.inl c_3)]) | (unfold slpV; rw [if_pos (Or.inr c_6)]) | (exact fun h => h.elim (fun q => q c_3) (fun q => q c_6)) | grind [upI])
theorem vX3_slipped_3 (s : MS) (a1 : Int) (a2 : Int) (a3 : Int) (hp : tOK (s.2 6) ∧ aOK (s.2 6) (s.2 7) ∧ sOK (s.2 6) (s.2 8) ∧ (0 ≤ a1 ∧ a1 < (s.2 6) 2) ∧ (0 ≤ a2 ∧ a2 < (s.2 6) 3) ∧ (0 ≤ a3 ∧ a3 < (s.2 6) 4)) (x2 : Int) (x3 : Int) (x4 : Int) (x5 : Int) (f11 : Int → Int) (f12 : Int → Int) (k25 : Int) (hI : x2 = a2 ∧ x3 = a3 ∧ (0 ≤ x5 ∧ x5 ≤ s.2 6 3) ∧ x4 = (thrS (s.2 6) (subA (s.2 7) (s.2 8) a2 a3) a1 x5.toNat).2 ∧ k25 = (thrS (s.2 6) (subA (s.2 7) (s.2 8) a2 a3) a1 x5.toNat).1 ∧ ¬ (s.2 7 (2 * a2) ≠ s.2 8 (4 * a3 + 2) ∨ s.2 7 (2 * a2 + 1) ≠ s.2 8 (4 * a3 + 3))) (c_1 : ¬ (s.2 6 3) ≤ x5) (c_2 : ¬ x5 = x2) (o_3 : (0 ≤ (i32 (2 * x5)) ∧ (i32 (2 * x5)) < 120)) : (0 ≤ (i32 ((i32 (2 * x5)) + 1)) ∧ (i32 ((i32 (2 * x5)) + 1)) < 120) := by
  obtain ⟨ht, ha, hs, h1, h2, h3⟩ := hp
  have hW := tOK_W ht
  have hS := tOK_S ht
  have hN := tOK_N ht
  (try (have b := thrS_b (a := (subA (s.2 7) (s.2 8) a2 a3)) h1 x5.toNat; rw [← hI.2.2.2.1, ← hI.2.2.2.2.1] at b))
  (try have hst := thrS_s (s.2 6) (subA (s.2 7) (s.2 8) a2 a3) a1 hI.2.2.1.1)
  (try unfold lex3)
  (try simp only [bI_0, bI_n, Classical.not_not] at *)
  (try simp (disch := omega) only [i32_id] at *)
  first | done | omega | ((repeat' (with_reducible apply And.intro)) <;> first | assumption | rfl | omega | (exact hI.2.2.2.2.2) | (unfold slpV; rw [if_neg hI.2.2.2.2.2, hI.2.2.2.1, show x5 = s.2 6 3 by omega]) | (exact ha x5 (by omega) (by omega)) | (rw [hI.2.1]; exact (hs a3 h3.1 h3.2).1) | (have e := subA_n (s.2 7) (s.2 8) (i := a2) (s := a3) (k := x5) (by omega); rw [e.1, e.2] at hst; rw [hst, hI.2.2.2.1, hI.2.2.2.2.1]) | (have e : subA (s.2 7) (s.2 8) a2 a3 (2 * x5) = s.2 8 (4 * a3) ∧ subA (s.2 7) (s.2 8) a2 a3 (2 * x5 + 1) = s.2 8 (4 * a3 + 1) := (by rw [show x5 = a2 by omega]; exact subA_y _ _ _ _); rw [e.1, e.2] at hst; rw [hst, hI.2.2.2.1, hI.2.2.2.2.1, hI.2.1]) | (unfold slpV; rw [if_pos (Or.inl c_3)]) | (unfold slpV; rw [if_pos (Or.inr c_6)]) | (exact fun h => h.elim (fun q => q c_3) (fun q => q c_6)) | grind [upI])
theorem vX3_slipped_4 (s : MS) (a1 : Int) (a2 : Int) (a3 : Int) (hp : tOK (s.2 6) ∧ aOK (s.2 6) (s.2 7) ∧ sOK (s.2 6) (s.2 8) ∧ (0 ≤ a1 ∧ a1 < (s.2 6) 2) ∧ (0 ≤ a2 ∧ a2 < (s.2 6) 3) ∧ (0 ≤ a3 ∧ a3 < (s.2 6) 4)) (x2 : Int) (x3 : Int) (x4 : Int) (x5 : Int) (f11 : Int → Int) (f12 : Int → Int) (k25 : Int) (hI : x2 = a2 ∧ x3 = a3 ∧ (0 ≤ x5 ∧ x5 ≤ s.2 6 3) ∧ x4 = (thrS (s.2 6) (subA (s.2 7) (s.2 8) a2 a3) a1 x5.toNat).2 ∧ k25 = (thrS (s.2 6) (subA (s.2 7) (s.2 8) a2 a3) a1 x5.toNat).1 ∧ ¬ (s.2 7 (2 * a2) ≠ s.2 8 (4 * a3 + 2) ∨ s.2 7 (2 * a2 + 1) ≠ s.2 8 (4 * a3 + 3))) (c_1 : ¬ (s.2 6 3) ≤ x5) (c_2 : ¬ x5 = x2) (o_3 : (0 ≤ (i32 (2 * x5)) ∧ (i32 (2 * x5)) < 120)) (o_4 : (0 ≤ (i32 ((i32 (2 * x5)) + 1)) ∧ (i32 ((i32 (2 * x5)) + 1)) < 120)) : (tOK (s.2 6) ∧ 0 ≤ x4 ∧ x4 < (s.2 6) 2 ∧ (0 ≤ k25 ∧ k25 < (s.2 6) 2) ∧ wOK ((s.2 6) 0) (s.2 7 (i32 (2 * x5))) (s.2 7 (i32 ((i32 (2 * x5)) + 1)))) := by
  obtain ⟨ht, ha, hs, h1, h2, h3⟩ := hp
  have hW := tOK_W ht
  have hS := tOK_S ht
  have hN := tOK_N ht
  (try (have b := thrS_b (a := (subA (s.2 7) (s.2 8) a2 a3)) h1 x5.toNat; rw [← hI.2.2.2.1, ← hI.2.2.2.2.1] at b))
  (try have hst := thrS_s (s.2 6) (subA (s.2 7) (s.2 8) a2 a3) a1 hI.2.2.1.1)
  (try unfold lex3)
  (try simp only [bI_0, bI_n, Classical.not_not] at *)
  (try simp (disch := omega) only [i32_id] at *)
  first | done | omega | ((repeat' (with_reducible apply And.intro)) <;> first | assumption | rfl | omega | (exact hI.2.2.2.2.2) | (unfold slpV; rw [if_neg hI.2.2.2.2.2, hI.2.2.2.1, show x5 = s.2 6 3 by omega]) | (exact ha x5 (by omega) (by omega)) | (rw [hI.2.1]; exact (hs a3 h3.1 h3.2).1) | (have e := subA_n (s.2 7) (s.2 8) (i := a2) (s := a3) (k := x5) (by omega); rw [e.1, e.2] at hst; rw [hst, hI.2.2.2.1, hI.2.2.2.2.1]) | (have e : subA (s.2 7) (s.2 8) a2 a3 (2 * x5) = s.2 8 (4 * a3) ∧ subA (s.2 7) (s.2 8) a2 a3 (2 * x5 + 1) = s.2 8 (4 * a3 + 1) := (by rw [show x5 = a2 by omega]; exact subA_y _ _ _ _); rw [e.1, e.2] at hst; rw [hst, hI.2.2.2.1, hI.2.2.2.2.1, hI.2.1]) | (unfold slpV; rw [if_pos (Or.inl c_3)]) | (unfold slpV; rw [if_pos (Or.inr c_6)]) | (exact fun h => h.elim (fun q => q c_3) (fun q => q c_6)) | grind [upI])
theorem vX3_slipped_5 (s : MS) (a1 : Int) (a2 : Int) (a3 : Int) (hp : tOK (s.2 6) ∧ aOK (s.2 6) (s.2 7) ∧ sOK (s.2 6) (s.2 8) ∧ (0 ≤ a1 ∧ a1 < (s.2 6) 2) ∧ (0 ≤ a2 ∧ a2 < (s.2 6) 3) ∧ (0 ≤ a3 ∧ a3 < (s.2 6) 4)) (x2 : Int) (x3 : Int) (x4 : Int) (x5 : Int) (f11 : Int → Int) (f12 : Int → Int) (k25 : Int) (hI : x2 = a2 ∧ x3 = a3 ∧ (0 ≤ x5 ∧ x5 ≤ s.2 6 3) ∧ x4 = (thrS (s.2 6) (subA (s.2 7) (s.2 8) a2 a3) a1 x5.toNat).2 ∧ k25 = (thrS (s.2 6) (subA (s.2 7) (s.2 8) a2 a3) a1 x5.toNat).1 ∧ ¬ (s.2 7 (2 * a2) ≠ s.2 8 (4 * a3 + 2) ∨ s.2 7 (2 * a2 + 1) ≠ s.2 8 (4 * a3 + 3))) (c_1 : ¬ (s.2 6 3) ≤ x5) (c_2 : ¬ x5 = x2) (o_3 : (0 ≤ (i32 (2 * x5)) ∧ (i32 (2 * x5)) < 120)) (o_4 : (0 ≤ (i32 ((i32 (2 * x5)) + 1)) ∧ (i32 ((i32 (2 * x5)) + 1)) < 120)) (o_5 : (tOK (s.2 6) ∧ 0 ≤ x4 ∧ x4 < (s.2 6) 2 ∧ (0 ≤ k25 ∧ k25 < (s.2 6) 2) ∧ wOK ((s.2 6) 0) (s.2 7 (i32 (2 * x5))) (s.2 7 (i32 ((i32 (2 * x5)) + 1))))) (f_6 : Int → Int) (f_7 : Int → Int) : x2 = a2 ∧ x3 = a3 ∧ (0 ≤ (i32 (x5 + 1)) ∧ (i32 (x5 + 1)) ≤ s.2 6 3) ∧ (wdo (s.2 6) k25 x4 (s.2 7 (i32 (2 * x5))) (s.2 7 (i32 ((i32 (2 * x5)) + 1)))) = (thrS (s.2 6) (subA (s.2 7) (s.2 8) a2 a3) a1 (i32 (x5 + 1)).toNat).2 ∧ (wkp k25 x4 (s.2 7 (i32 (2 * x5)))) = (thrS (s.2 6) (subA (s.2 7) (s.2 8) a2 a3) a1 (i32 (x5 + 1)).toNat).1 ∧ ¬ (s.2 7 (2 * a2) ≠ s.2 8 (4 * a3 + 2) ∨ s.2 7 (2 * a2 + 1) ≠ s.2 8 (4 * a3 + 3)) := by
  obtain ⟨ht, ha, hs, h1, h2, h3⟩ := hp
  have hW := tOK_W ht
  have hS := tOK_S ht
  have hN := tOK_N ht
  (try (have b := thrS_b (a := (subA (s.2 7) (s.2 8) a2 a3)) h1 x5.toNat; rw [← hI.2.2.2.1, ← hI.2.2.2.2.1] at b))
  (try have hst := thrS_s (s.2 6) (subA (s.2 7) (s.2 8) a2 a3) a1 hI.2.2.1.1)
  (try unfold lex3)
  (try simp only [bI_0, bI_n, Classical.not_not] at *)
  (try simp (disch := omega) only [i32_id] at *)
  first | done | omega | ((repeat' (with_reducible apply And.intro)) <;> first | assumption | rfl | omega | (exact hI.2.2.2.2.2) | (unfold slpV; rw [if_neg hI.2.2.2.2.2, hI.2.2.2.1, show x5 = s.2 6 3 by omega]) | (exact ha x5 (by omega) (by omega)) | (rw [hI.2.1]; exact (hs a3 h3.1 h3.2).1) | (have e := subA_n (s.2 7) (s.2 8) (i := a2) (s := a3) (k := x5) (by omega); rw [e.1, e.2] at hst; rw [hst, hI.2.2.2.1, hI.2.2.2.2.1]) | (have e : subA (s.2 7) (s.2 8) a2 a3 (2 * x5) = s.2 8 (4 * a3) ∧ subA (s.2 7) (s.2 8) a2 a3 (2 * x5 + 1) = s.2 8 (4 * a3 + 1) := (by rw [show x5 = a2 by omega]; exact subA_y _ _ _ _); rw [e.1, e.2] at hst; rw [hst, hI.2.2.2.1, hI.2.2.2.2.1, hI.2.1]) | (unfold slpV; rw [if_pos (Or.inl c_3)]) | (unfold slpV; rw [if_pos (Or.inr c_6)]) | (exact fun h => h.elim (fun q => q c_3) (fun q => q c_6)) | grind [upI])
theorem vX3_slipped_6 (s : MS) (a1 : Int) (a2 : Int) (a3 : Int) (hp : tOK (s.2 6) ∧ aOK (s.2 6) (s.2 7) ∧ sOK (s.2 6) (s.2 8) ∧ (0 ≤ a1 ∧ a1 < (s.2 6) 2) ∧ (0 ≤ a2 ∧ a2 < (s.2 6) 3) ∧ (0 ≤ a3 ∧ a3 < (s.2 6) 4)) (x2 : Int) (x3 : Int) (x4 : Int) (x5 : Int) (f11 : Int → Int) (f12 : Int → Int) (k25 : Int) (hI : x2 = a2 ∧ x3 = a3 ∧ (0 ≤ x5 ∧ x5 ≤ s.2 6 3) ∧ x4 = (thrS (s.2 6) (subA (s.2 7) (s.2 8) a2 a3) a1 x5.toNat).2 ∧ k25 = (thrS (s.2 6) (subA (s.2 7) (s.2 8) a2 a3) a1 x5.toNat).1 ∧ ¬ (s.2 7 (2 * a2) ≠ s.2 8 (4 * a3 + 2) ∨ s.2 7 (2 * a2 + 1) ≠ s.2 8 (4 * a3 + 3))) (c_1 : ¬ (s.2 6 3) ≤ x5) (c_2 : ¬ x5 = x2) (o_3 : (0 ≤ (i32 (2 * x5)) ∧ (i32 (2 * x5)) < 120)) (o_4 : (0 ≤ (i32 ((i32 (2 * x5)) + 1)) ∧ (i32 ((i32 (2 * x5)) + 1)) < 120)) (o_5 : (tOK (s.2 6) ∧ 0 ≤ x4 ∧ x4 < (s.2 6) 2 ∧ (0 ≤ k25 ∧ k25 < (s.2 6) 2) ∧ wOK ((s.2 6) 0) (s.2 7 (i32 (2 * x5))) (s.2 7 (i32 ((i32 (2 * x5)) + 1))))) (f_6 : Int → Int) (f_7 : Int → Int) : lex3 0 0 ((s.2 6 3 - (i32 (x5 + 1))).toNat) 0 0 ((s.2 6 3 - x5).toNat) := by
  obtain ⟨ht, ha, hs, h1, h2, h3⟩ := hp
  have hW := tOK_W ht
  have hS := tOK_S ht
  have hN := tOK_N ht
  (try (have b := thrS_b (a := (subA (s.2 7) (s.2 8) a2 a3)) h1 x5.toNat; rw [← hI.2.2.2.1, ← hI.2.2.2.2.1] at b))
  (try have hst := thrS_s (s.2 6) (subA (s.2 7) (s.2 8) a2 a3) a1 hI.2.2.1.1)
  (try unfold lex3)
  (try simp only [bI_0, bI_n, Classical.not_not] at *)
  (try simp (disch := omega) only [i32_id] at *)
  first | done | omega | ((repeat' (with_reducible apply And.intro)) <;> first | assumption | rfl | omega | (exact hI.2.2.2.2.2) | (unfold slpV; rw [if_neg hI.2.2.2.2.2, hI.2.2.2.1, show x5 = s.2 6 3 by omega]) | (exact ha x5 (by omega) (by omega)) | (rw [hI.2.1]; exact (hs a3 h3.1 h3.2).1) | (have e := subA_n (s.2 7) (s.2 8) (i := a2) (s := a3) (k := x5) (by omega); rw [e.1, e.2] at hst; rw [hst, hI.2.2.2.1, hI.2.2.2.2.1]) | (have e : subA (s.2 7) (s.2 8) a2 a3 (2 * x5) = s.2 8 (4 * a3) ∧ subA (s.2 7) (s.2 8) a2 a3 (2 * x5 + 1) = s.2 8 (4 * a3 + 1) := (by rw [show x5 = a2 by omega]; exact subA_y _ _ _ _); rw [e.1, e.2] at hst; rw [hst, hI.2.2.2.1, hI.2.2.2.2.1, hI.2.1]) | (unfold slpV; rw [if_pos (Or.inl c_3)]) | (unfold slpV; rw [if_pos (Or.inr c_6)]) | (exact fun h => h.elim (fun q => q c_3) (fun q => q c_6)) | grind [upI])
theorem vX3_slipped_7 (s : MS) (a1 : Int) (a2 : Int) (a3 : Int) (hp : tOK (s.2 6) ∧ aOK (s.2 6) (s.2 7) ∧ sOK (s.2 6) (s.2 8) ∧ (0 ≤ a1 ∧ a1 < (s.2 6) 2) ∧ (0 ≤ a2 ∧ a2 < (s.2 6) 3) ∧ (0 ≤ a3 ∧ a3 < (s.2 6) 4)) (x2 : Int) (x3 : Int) (x4 : Int) (x5 : Int) (f11 : Int → Int) (f12 : Int → Int) (k25 : Int) (hI : x2 = a2 ∧ x3 = a3 ∧ (0 ≤ x5 ∧ x5 ≤ s.2 6 3) ∧ x4 = (thrS (s.2 6) (subA (s.2 7) (s.2 8) a2 a3) a1 x5.toNat).2 ∧ k25 = (thrS (s.2 6) (subA (s.2 7) (s.2 8) a2 a3) a1 x5.toNat).1 ∧ ¬ (s.2 7 (2 * a2) ≠ s.2 8 (4 * a3 + 2) ∨ s.2 7 (2 * a2 + 1) ≠ s.2 8 (4 * a3 + 3))) (c_1 : ¬ (s.2 6 3) ≤ x5) (c_2 : x5 = x2) : (0 ≤ (i32 (4 * x3)) ∧ (i32 (4 * x3)) < 120) := by
  obtain ⟨ht, ha, hs, h1, h2, h3⟩ := hp
  have hW := tOK_W ht
  have hS := tOK_S ht
  have hN := tOK_N ht
  (try (have b := thrS_b (a := (subA (s.2 7) (s.2 8) a2 a3)) h1 x5.toNat; rw [← hI.2.2.2.1, ← hI.2.2.2.2.1] at b))
  (try have hst := thrS_s (s.2 6) (subA (s.2 7) (s.2 8) a2 a3) a1 hI.2.2.1.1)
  (try unfold lex3)
  (try simp only [bI_0, bI_n, Classical.not_not] at *)
  (try simp (disch := omega) only [i32_id] at *)
  first | done | omega | ((repeat' (with_reducible apply And.intro)) <;> first | assumption | rfl | omega | (exact hI.2.2.2.2.2) | (unfold slpV; rw [if_neg hI.2.2.2.2.2, hI.2.2.2.1, show x5 = s.2 6 3 by omega]) | (exact ha x5 (by omega) (by omega)) | (rw [hI.2.1]; exact (hs a3 h3.1 h3.2).1) | (have e := subA_n (s.2 7) (s.2 8) (i := a2) (s := a3) (k := x5) (by omega); rw [e.1, e.2] at hst; rw [hst, hI.2.2.2.1, hI.2.2.2.2.1]) | (have e : subA (s.2 7) (s.2 8) a2 a3 (2 * x5) = s.2 8 (4 * a3) ∧ subA (s.2 7) (s.2 8) a2 a3 (2 * x5 + 1) = s.2 8 (4 * a3 + 1) := (by rw [show x5 = a2 by omega]; exact subA_y _ _ _ _); rw [e.1, e.2] at hst; rw [hst, hI.2.2.2.1, hI.2.2.2.2.1, hI.2.1]) | (unfold slpV; rw [if_pos (Or.inl c_3)]) | (unfold slpV; rw [if_pos (Or.inr c_6)]) | (exact fun h => h.elim (fun q => q c_3) (fun q => q c_6)) | grind [upI])
theorem vX3_slipped_8 (s : MS) (a1 : Int) (a2 : Int) (a3 : Int) (hp : tOK (s.2 6) ∧ aOK (s.2 6) (s.2 7) ∧ sOK (s.2 6) (s.2 8) ∧ (0 ≤ a1 ∧ a1 < (s.2 6) 2) ∧ (0 ≤ a2 ∧ a2 < (s.2 6) 3) ∧ (0 ≤ a3 ∧ a3 < (s.2 6) 4)) (x2 : Int) (x3 : Int) (x4 : Int) (x5 : Int) (f11 : Int → Int) (f12 : Int → Int) (k25 : Int) (hI : x2 = a2 ∧ x3 = a3 ∧ (0 ≤ x5 ∧ x5 ≤ s.2 6 3) ∧ x4 = (thrS (s.2 6) (subA (s.2 7) (s.2 8) a2 a3) a1 x5.toNat).2 ∧ k25 = (thrS (s.2 6) (subA (s.2 7) (s.2 8) a2 a3) a1 x5.toNat).1 ∧ ¬ (s.2 7 (2 * a2) ≠ s.2 8 (4 * a3 + 2) ∨ s.2 7 (2 * a2 + 1) ≠ s.2 8 (4 * a3 + 3))) (c_1 : ¬ (s.2 6 3) ≤ x5) (c_2 : x5 = x2) (o_9 : (0 ≤ (i32 (4 * x3)) ∧ (i32 (4 * x3)) < 120)) : (0 ≤ (i32 ((i32 (4 * x3)) + 1)) ∧ (i32 ((i32 (4 * x3)) + 1)) < 120) := by
  obtain ⟨ht, ha, hs, h1, h2, h3⟩ := hp
  have hW := tOK_W ht
  have hS := tOK_S ht
  have hN := tOK_N ht
  (try (have b := thrS_b (a := (subA (s.2 7) (s.2 8) a2 a3)) h1 x5.toNat; rw [← hI.2.2.2.1, ← hI.2.2.2.2.1] at b))
  (try have hst := thrS_s (s.2 6) (subA (s.2 7) (s.2 8) a2 a3) a1 hI.2.2.1.1)
  (try unfold lex3)
  (try simp only [bI_0, bI_n, Classical.not_not] at *)
  (try simp (disch := omega) only [i32_id] at *)
  first | done | omega | ((repeat' (with_reducible apply And.intro)) <;> first | assumption | rfl | omega | (exact hI.2.2.2.2.2) | (unfold slpV; rw [if_neg hI.2.2.2.2.2, hI.2.2.2.1, show x5 = s.2 6 3 by omega]) | (exact ha x5 (by omega) (by omega)) | (rw [hI.2.1]; exact (hs a3 h3.1 h3.2).1) | (have e := subA_n (s.2 7) (s.2 8) (i := a2) (s := a3) (k := x5) (by omega); rw [e.1, e.2] at hst; rw [hst, hI.2.2.2.1, hI.2.2.2.2.1]) | (have e : subA (s.2 7) (s.2 8) a2 a3 (2 * x5) = s.2 8 (4 * a3) ∧ subA (s.2 7) (s.2 8) a2 a3 (2 * x5 + 1) = s.2 8 (4 * a3 + 1) := (by rw [show x5 = a2 by omega]; exact subA_y _ _ _ _); rw [e.1, e.2] at hst; rw [hst, hI.2.2.2.1, hI.2.2.2.2.1, hI.2.1]) | (unfold slpV; rw [if_pos (Or.inl c_3)]) | (unfold slpV; rw [if_pos (Or.inr c_6)]) | (exact fun h => h.elim (fun q => q c_3) (fun q => q c_6)) | grind [upI])
theorem vX3_slipped_9 (s : MS) (a1 : Int) (a2 : Int) (a3 : Int) (hp : tOK (s.2 6) ∧ aOK (s.2 6) (s.2 7) ∧ sOK (s.2 6) (s.2 8) ∧ (0 ≤ a1 ∧ a1 < (s.2 6) 2) ∧ (0 ≤ a2 ∧ a2 < (s.2 6) 3) ∧ (0 ≤ a3 ∧ a3 < (s.2 6) 4)) (x2 : Int) (x3 : Int) (x4 : Int) (x5 : Int) (f11 : Int → Int) (f12 : Int → Int) (k25 : Int) (hI : x2 = a2 ∧ x3 = a3 ∧ (0 ≤ x5 ∧ x5 ≤ s.2 6 3) ∧ x4 = (thrS (s.2 6) (subA (s.2 7) (s.2 8) a2 a3) a1 x5.toNat).2 ∧ k25 = (thrS (s.2 6) (subA (s.2 7) (s.2 8) a2 a3) a1 x5.toNat).1 ∧ ¬ (s.2 7 (2 * a2) ≠ s.2 8 (4 * a3 + 2) ∨ s.2 7 (2 * a2 + 1) ≠ s.2 8 (4 * a3 + 3))) (c_1 : ¬ (s.2 6 3) ≤ x5) (c_2 : x5 = x2) (o_9 : (0 ≤ (i32 (4 * x3)) ∧ (i32 (4 * x3)) < 120)) (o_10 : (0 ≤ (i32 ((i32 (4 * x3)) + 1)) ∧ (i32 ((i32 (4 * x3)) + 1)) < 120)) : (tOK (s.2 6) ∧ 0 ≤ x4 ∧ x4 < (s.2 6) 2 ∧ (0 ≤ k25 ∧ k25 < (s.2 6) 2) ∧ wOK ((s.2 6) 0) (s.2 8 (i32 (4 * x3))) (s.2 8 (i32 ((i32 (4 * x3)) + 1)))) := by
  obtain ⟨ht, ha, hs, h1, h2, h3⟩ := hp
  have hW := tOK_W ht
  have hS := tOK_S ht
  have hN := tOK_N ht
  (try (have b := thrS_b (a := (subA (s.2 7) (s.2 8) a2 a3)) h1 x5.toNat; rw [← hI.2.2.2.1, ← hI.2.2.2.2.1] at b))
  (try have hst := thrS_s (s.2 6) (subA (s.2 7) (s.2 8) a2 a3) a1 hI.2.2.1.1)
  (try unfold lex3)
  (try simp only [bI_0, bI_n, Classical.not_not] at *)
  (try simp (disch := omega) only [i32_id] at *)
  first | done | omega | ((repeat' (with_reducible apply And.intro)) <;> first | assumption | rfl | omega | (exact hI.2.2.2.2.2) | (unfold slpV; rw [if_neg hI.2.2.2.2.2, hI.2.2.2.1, show x5 = s.2 6 3 by omega]) | (exact ha x5 (by omega) (by omega)) | (rw [hI.2.1]; exact (hs a3 h3.1 h3.2).1) | (have e := subA_n (s.2 7) (s.2 8) (i := a2) (s := a3) (k := x5) (by omega); rw [e.1, e.2] at hst; rw [hst, hI.2.2.2.1, hI.2.2.2.2.1]) | (have e : subA (s.2 7) (s.2 8) a2 a3 (2 * x5) = s.2 8 (4 * a3) ∧ subA (s.2 7) (s.2 8) a2 a3 (2 * x5 + 1) = s.2 8 (4 * a3 + 1) := (by rw [show x5 = a2 by omega]; exact subA_y _ _ _ _); rw [e.1, e.2] at hst; rw [hst, hI.2.2.2.1, hI.2.2.2.2.1, hI.2.1]) | (unfold slpV; rw [if_pos (Or.inl c_3)]) | (unfold slpV; rw [if_pos (Or.inr c_6)]) | (exact fun h => h.elim (fun q => q c_3) (fun q => q c_6)) | grind [upI])
theorem vX3_slipped_10 (s : MS) (a1 : Int) (a2 : Int) (a3 : Int) (hp : tOK (s.2 6) ∧ aOK (s.2 6) (s.2 7) ∧ sOK (s.2 6) (s.2 8) ∧ (0 ≤ a1 ∧ a1 < (s.2 6) 2) ∧ (0 ≤ a2 ∧ a2 < (s.2 6) 3) ∧ (0 ≤ a3 ∧ a3 < (s.2 6) 4)) (x2 : Int) (x3 : Int) (x4 : Int) (x5 : Int) (f11 : Int → Int) (f12 : Int → Int) (k25 : Int) (hI : x2 = a2 ∧ x3 = a3 ∧ (0 ≤ x5 ∧ x5 ≤ s.2 6 3) ∧ x4 = (thrS (s.2 6) (subA (s.2 7) (s.2 8) a2 a3) a1 x5.toNat).2 ∧ k25 = (thrS (s.2 6) (subA (s.2 7) (s.2 8) a2 a3) a1 x5.toNat).1 ∧ ¬ (s.2 7 (2 * a2) ≠ s.2 8 (4 * a3 + 2) ∨ s.2 7 (2 * a2 + 1) ≠ s.2 8 (4 * a3 + 3))) (c_1 : ¬ (s.2 6 3) ≤ x5) (c_2 : x5 = x2) (o_9 : (0 ≤ (i32 (4 * x3)) ∧ (i32 (4 * x3)) < 120)) (o_10 : (0 ≤ (i32 ((i32 (4 * x3)) + 1)) ∧ (i32 ((i32 (4 * x3)) + 1)) < 120)) (o_11 : (tOK (s.2 6) ∧ 0 ≤ x4 ∧ x4 < (s.2 6) 2 ∧ (0 ≤ k25 ∧ k25 < (s.2 6) 2) ∧ wOK ((s.2 6) 0) (s.2 8 (i32 (4 * x3))) (s.2 8 (i32 ((i32 (4 * x3)) + 1))))) (f_12 : Int → Int) (f_13 : Int → Int) : x2 = a2 ∧ x3 = a3 ∧ (0 ≤ (i32 (x5 + 1)) ∧ (i32 (x5 + 1)) ≤ s.2 6 3) ∧ (wdo (s.2 6) k25 x4 (s.2 8 (i32 (4 * x3))) (s.2 8 (i32 ((i32 (4 * x3)) + 1)))) = (thrS (s.2 6) (subA (s.2 7) (s.2 8) a2 a3) a1 (i32 (x5 + 1)).toNat).2 ∧ (wkp k25 x4 (s.2 8 (i32 (4 * x3)))) = (thrS (s.2 6) (subA (s.2 7) (s.2 8) a2 a3) a1 (i32 (x5 + 1)).toNat).1 ∧ ¬ (s.2 7 (2 * a2) ≠ s.2 8 (4 * a3 + 2) ∨ s.2 7 (2 * a2 + 1) ≠ s.2 8 (4 * a3 + 3)) := by
  obtain ⟨ht, ha, hs, h1, h2, h3⟩ := hp
  have hW := tOK_W ht
  have hS := tOK_S ht
  have hN := tOK_N ht
  (try (have b := thrS_b (a := (subA (s.2 7) (s.2 8) a2 a3)) h1 x5.toNat; rw [← hI.2.2.2.1, ← hI.2.2.2.2.1] at b))
  (try have hst := thrS_s (s.2 6) (subA (s.2 7) (s.2 8) a2 a3) a1 hI.2.2.1.1)
  (try unfold lex3)
  (try simp only [bI_0, bI_n, Classical.not_not] at *)
  (try simp (disch := omega) only [i32_id] at *)
  first | done | omega | ((repeat' (with_reducible apply And.intro)) <;> first | assumption | rfl | omega | (exact hI.2.2.2.2.2) | (unfold slpV; rw [if_neg hI.2.2.2.2.2, hI.2.2.2.1, show x5 = s.2 6 3 by omega]) | (exact ha x5 (by omega) (by omega)) | (rw [hI.2.1]; exact (hs a3 h3.1 h3.2).1) | (have e := subA_n (s.2 7) (s.2 8) (i := a2) (s := a3) (k := x5) (by omega); rw [e.1, e.2] at hst; rw [hst, hI.2.2.2.1, hI.2.2.2.2.1]) | (have e : subA (s.2 7) (s.2 8) a2 a3 (2 * x5) = s.2 8 (4 * a3) ∧ subA (s.2 7) (s.2 8) a2 a3 (2 * x5 + 1) = s.2 8 (4 * a3 + 1) := (by rw [show x5 = a2 by omega]; exact subA_y _ _ _ _); rw [e.1, e.2] at hst; rw [hst, hI.2.2.2.1, hI.2.2.2.2.1, hI.2.1]) | (unfold slpV; rw [if_pos (Or.inl c_3)]) | (unfold slpV; rw [if_pos (Or.inr c_6)]) | (exact fun h => h.elim (fun q => q c_3) (fun q => q c_6)) | grind [upI])
theorem vX3_slipped_11 (s : MS) (a1 : Int) (a2 : Int) (a3 : Int) (hp : tOK (s.2 6) ∧ aOK (s.2 6) (s.2 7) ∧ sOK (s.2 6) (s.2 8) ∧ (0 ≤ a1 ∧ a1 < (s.2 6) 2) ∧ (0 ≤ a2 ∧ a2 < (s.2 6) 3) ∧ (0 ≤ a3 ∧ a3 < (s.2 6) 4)) (x2 : Int) (x3 : Int) (x4 : Int) (x5 : Int) (f11 : Int → Int) (f12 : Int → Int) (k25 : Int) (hI : x2 = a2 ∧ x3 = a3 ∧ (0 ≤ x5 ∧ x5 ≤ s.2 6 3) ∧ x4 = (thrS (s.2 6) (subA (s.2 7) (s.2 8) a2 a3) a1 x5.toNat).2 ∧ k25 = (thrS (s.2 6) (subA (s.2 7) (s.2 8) a2 a3) a1 x5.toNat).1 ∧ ¬ (s.2 7 (2 * a2) ≠ s.2 8 (4 * a3 + 2) ∨ s.2 7 (2 * a2 + 1) ≠ s.2 8 (4 * a3 + 3))) (c_1 : ¬ (s.2 6 3) ≤ x5) (c_2 : x5 = x2) (o_9 : (0 ≤ (i32 (4 * x3)) ∧ (i32 (4 * x3)) < 120)) (o_10 : (0 ≤ (i32 ((i32 (4 * x3)) + 1)) ∧ (i32 ((i32 (4 * x3)) + 1)) < 120)) (o_11 : (tOK (s.2 6) ∧ 0 ≤ x4 ∧ x4 < (s.2 6) 2 ∧ (0 ≤ k25 ∧ k25 < (s.2 6) 2) ∧ wOK ((s.2 6) 0) (s.2 8 (i32 (4 * x3))) (s.2 8 (i32 ((i32 (4 * x3)) + 1))))) (f_12 : Int → Int) (f_13 : Int → Int) : lex3 0 0 ((s.2 6 3 - (i32 (x5 + 1))).toNat) 0 0 ((s.2 6 3 - x5).toNat) := by
  obtain ⟨ht, ha, hs, h1, h2, h3⟩ := hp
  have hW := tOK_W ht
  have hS := tOK_S ht
  have hN := tOK_N ht
  (try (have b := thrS_b (a := (subA (s.2 7) (s.2 8) a2 a3)) h1 x5.toNat; rw [← hI.2.2.2.1, ← hI.2.2.2.2.1] at b))
  (try have hst := thrS_s (s.2 6) (subA (s.2 7) (s.2 8) a2 a3) a1 hI.2.2.1.1)
  (try unfold lex3)
  (try simp only [bI_0, bI_n, Classical.not_not] at *)
  (try simp (disch := omega) only [i32_id] at *)
  first | done | omega | ((repeat' (with_reducible apply And.intro)) <;> first | assumption | rfl | omega | (exact hI.2.2.2.2.2) | (unfold slpV; rw [if_neg hI.2.2.2.2.2, hI.2.2.2.1, show x5 = s.2 6 3 by omega]) | (exact ha x5 (by omega) (by omega)) | (rw [hI.2.1]; exact (hs a3 h3.1 h3.2).1) | (have e := subA_n (s.2 7) (s.2 8) (i := a2) (s := a3) (k := x5) (by omega); rw [e.1, e.2] at hst; rw [hst, hI.2.2.2.1, hI.2.2.2.2.1]) | (have e : subA (s.2 7) (s.2 8) a2 a3 (2 * x5) = s.2 8 (4 * a3) ∧ subA (s.2 7) (s.2 8) a2 a3 (2 * x5 + 1) = s.2 8 (4 * a3 + 1) := (by rw [show x5 = a2 by omega]; exact subA_y _ _ _ _); rw [e.1, e.2] at hst; rw [hst, hI.2.2.2.1, hI.2.2.2.2.1, hI.2.1]) | (unfold slpV; rw [if_pos (Or.inl c_3)]) | (unfold slpV; rw [if_pos (Or.inr c_6)]) | (exact fun h => h.elim (fun q => q c_3) (fun q => q c_6)) | grind [upI])
theorem vX3_slipped_12 (s : MS) (a1 : Int) (a2 : Int) (a3 : Int) (hp : tOK (s.2 6) ∧ aOK (s.2 6) (s.2 7) ∧ sOK (s.2 6) (s.2 8) ∧ (0 ≤ a1 ∧ a1 < (s.2 6) 2) ∧ (0 ≤ a2 ∧ a2 < (s.2 6) 3) ∧ (0 ≤ a3 ∧ a3 < (s.2 6) 4)) : (0 ≤ (i32 (2 * a2)) ∧ (i32 (2 * a2)) < 120) := by
  obtain ⟨ht, ha, hs, h1, h2, h3⟩ := hp
  have hW := tOK_W ht
  have hS := tOK_S ht
  have hN := tOK_N ht
  (try (have b := thrS_b (a := (subA (s.2 7) (s.2 8) a2 a3)) h1 x5.toNat; rw [← hI.2.2.2.1, ← hI.2.2.2.2.1] at b))
  (try have hst := thrS_s (s.2 6) (subA (s.2 7) (s.2 8) a2 a3) a1 hI.2.2.1.1)
  (try unfold lex3)
  (try simp only [bI_0, bI_n, Classical.not_not] at *)
  (try simp (disch := omega) only [i32_id] at *)
  first | done | omega | ((repeat' (with_reducible apply And.intro)) <;> first | assumption | rfl | omega | (exact hI.2.2.2.2.2) | (unfold slpV; rw [if_neg hI.2.2.2.2.2, hI.2.2.2.1, show x5 = s.2 6 3 by omega]) | (exact ha x5 (by omega) (by omega)) | (rw [hI.2.1]; exact (hs a3 h3.1 h3.2).1) | (have e := subA_n (s.2 7) (s.2 8) (i := a2) (s := a3) (k := x5) (by omega); rw [e.1, e.2] at hst; rw [hst, hI.2.2.2.1, hI.2.2.2.2.1]) | (have e : subA (s.2 7) (s.2 8) a2 a3 (2 * x5) = s.2 8 (4 * a3) ∧ subA (s.2 7) (s.2 8) a2 a3 (2 * x5 + 1) = s.2 8 (4 * a3 + 1) := (by rw [show x5 = a2 by omega]; exact subA_y _ _ _ _); rw [e.1, e.2] at hst; rw [hst, hI.2.2.2.1, hI.2.2.2.2.1, hI.2.1]) | (unfold slpV; rw [if_pos (Or.inl c_3)]) | (unfold slpV; rw [if_pos (Or.inr c_6)]) | (exact fun h => h.elim (fun q => q c_3) (fun q => q c_6)) | grind [upI])
theorem vX3_slipped_13 (s : MS) (a1 : Int) (a2 : Int) (a3 : Int) (hp : tOK (s.2 6) ∧ aOK (s.2 6) (s.2 7) ∧ sOK (s.2 6) (s.2 8) ∧ (0 ≤ a1 ∧ a1 < (s.2 6) 2) ∧ (0 ≤ a2 ∧ a2 < (s.2 6) 3) ∧ (0 ≤ a3 ∧ a3 < (s.2 6) 4)) (o_1 : (0 ≤ (i32 (2 * a2)) ∧ (i32 (2 * a2)) < 120)) : (0 ≤ (i32 ((i32 (4 * a3)) + 2)) ∧ (i32 ((i32 (4 * a3)) + 2)) < 120) := by
  obtain ⟨ht, ha, hs, h1, h2, h3⟩ := hp
  have hW := tOK_W ht
  have hS := tOK_S ht
  have hN := tOK_N ht
  (try (have b := thrS_b (a := (subA (s.2 7) (s.2 8) a2 a3)) h1 x5.toNat; rw [← hI.2.2.2.1, ← hI.2.2.2.2.1] at b))
  (try have hst := thrS_s (s.2 6) (subA (s.2 7) (s.2 8) a2 a3) a1 hI.2.2.1.1)
  (try unfold lex3)
  (try simp only [bI_0, bI_n, Classical.not_not] at *)
  (try simp (disch := omega) only [i32_id] at *)
  first | done | omega | ((repeat' (with_reducible apply And.intro)) <;> first | assumption | rfl | omega | (exact hI.2.2.2.2.2) | (unfold slpV; rw [if_neg hI.2.2.2.2.2, hI.2.2.2.1, show x5 = s.2 6 3 by omega]) | (exact ha x5 (by omega) (by omega)) | (rw [hI.2.1]; exact (hs a3 h3.1 h3.2).1) | (have e := subA_n (s.2 7) (s.2 8) (i := a2) (s := a3) (k := x5) (by omega); rw [e.1, e.2] at hst; rw [hst, hI.2.2.2.1, hI.2.2.2.2.1]) | (have e : subA (s.2 7) (s.2 8) a2 a3 (2 * x5) = s.2 8 (4 * a3) ∧ subA (s.2 7) (s.2 8) a2 a3 (2 * x5 + 1) = s.2 8 (4 * a3 + 1) := (by rw [show x5 = a2 by omega]; exact subA_y _ _ _ _); rw [e.1, e.2] at hst; rw [hst, hI.2.2.2.1, hI.2.2.2.2.1, hI.2.1]) | (unfold slpV; rw [if_pos (Or.inl c_3)]) | (unfold slpV; rw [if_pos (Or.inr c_6)]) | (exact fun h => h.elim (fun q => q c_3) (fun q => q c_6)) | grind [upI])
theorem vX3_slipped_14 (s : MS) (a1 : Int) (a2 : Int) (a3 : Int) (hp : tOK (s.2 6) ∧ aOK (s.2 6) (s.2 7) ∧ sOK (s.2 6) (s.2 8) ∧ (0 ≤ a1 ∧ a1 < (s.2 6) 2) ∧ (0 ≤ a2 ∧ a2 < (s.2 6) 3) ∧ (0 ≤ a3 ∧ a3 < (s.2 6) 4)) (o_1 : (0 ≤ (i32 (2 * a2)) ∧ (i32 (2 * a2)) < 120)) (o_2 : (0 ≤ (i32 ((i32 (4 * a3)) + 2)) ∧ (i32 ((i32 (4 * a3)) + 2)) < 120)) (c_3 : ¬ (s.2 7 (i32 (2 * a2))) = (s.2 8 (i32 ((i32 (4 * a3)) + 2)))) : (-1) = (slpV (s.2 6) (s.2 7) (s.2 8) a1 a2 a3) := by
  obtain ⟨ht, ha, hs, h1, h2, h3⟩ := hp
  have hW := tOK_W ht
  have hS := tOK_S ht
  have hN := tOK_N ht
  (try (have b := thrS_b (a := (subA (s.2 7) (s.2 8) a2 a3)) h1 x5.toNat; rw [← hI.2.2.2.1, ← hI.2.2.2.2.1] at b))
  (try have hst := thrS_s (s.2 6) (subA (s.2 7) (s.2 8) a2 a3) a1 hI.2.2.1.1)
  (try unfold lex3)
  (try simp only [bI_0, bI_n, Classical.not_not] at *)
  (try simp (disch := omega) only [i32_id] at *)
  first | done | omega | ((repeat' (with_reducible apply And.intro)) <;> first | assumption | rfl | omega | (exact hI.2.2.2.2.2) | (unfold slpV; rw [if_neg hI.2.2.2.2.2, hI.2.2.2.1, show x5 = s.2 6 3 by omega]) | (exact ha x5 (by omega) (by omega)) | (rw [hI.2.1]; exact (hs a3 h3.1 h3.2).1) | (have e := subA_n (s.2 7) (s.2 8) (i := a2) (s := a3) (k := x5) (by omega); rw [e.1, e.2] at hst; rw [hst, hI.2.2.2.1, hI.2.2.2.2.1]) | (have e : subA (s.2 7) (s.2 8) a2 a3 (2 * x5) = s.2 8 (4 * a3) ∧ subA (s.2 7) (s.2 8) a2 a3 (2 * x5 + 1) = s.2 8 (4 * a3 + 1) := (by rw [show x5 = a2 by omega]; exact subA_y _ _ _ _); rw [e.1, e.2] at hst; rw [hst, hI.2.2.2.1, hI.2.2.2.2.1, hI.2.1]) | (unfold slpV; rw [if_pos (Or.inl c_3)]) | (unfold slpV; rw [if_pos (Or.inr c_6)]) | (exact fun h => h.elim (fun q => q c_3) (fun q => q c_6)) | grind [upI])
theorem vX3_slipped_15 (s : MS) (a1 : Int) (a2 : Int) (a3 : Int) (hp : tOK (s.2 6) ∧ aOK (s.2 6) (s.2 7) ∧ sOK (s.2 6) (s.2 8) ∧ (0 ≤ a1 ∧ a1 < (s.2 6) 2) ∧ (0 ≤ a2 ∧ a2 < (s.2 6) 3) ∧ (0 ≤ a3 ∧ a3 < (s.2 6) 4)) (o_1 : (0 ≤ (i32 (2 * a2)) ∧ (i32 (2 * a2)) < 120)) (o_2 : (0 ≤ (i32 ((i32 (4 * a3)) + 2)) ∧ (i32 ((i32 (4 * a3)) + 2)) < 120)) (c_3 : (s.2 7 (i32 (2 * a2))) = (s.2 8 (i32 ((i32 (4 * a3)) + 2)))) : (0 ≤ (i32 ((i32 (2 * a2)) + 1)) ∧ (i32 ((i32 (2 * a2)) + 1)) < 120) := by
  obtain ⟨ht, ha, hs, h1, h2, h3⟩ := hp
  have hW := tOK_W ht
  have hS := tOK_S ht
  have hN := tOK_N ht
  (try (have b := thrS_b (a := (subA (s.2 7) (s.2 8) a2 a3)) h1 x5.toNat; rw [← hI.2.2.2.1, ← hI.2.2.2.2.1] at b))
  (try have hst := thrS_s (s.2 6) (subA (s.2 7) (s.2 8) a2 a3) a1 hI.2.2.1.1)
  (try unfold lex3)
  (try simp only [bI_0, bI_n, Classical.not_not] at *)
  (try simp (disch := omega) only [i32_id] at *)
  first | done | omega | ((repeat' (with_reducible apply And.intro)) <;> first | assumption | rfl | omega | (exact hI.2.2.2.2.2) | (unfold slpV; rw [if_neg hI.2.2.2.2.2, hI.2.2.2.1, show x5 = s.2 6 3 by omega]) | (exact ha x5 (by omega) (by omega)) | (rw [hI.2.1]; exact (hs a3 h3.1 h3.2).1) | (have e := subA_n (s.2 7) (s.2 8) (i := a2) (s := a3) (k := x5) (by omega); rw [e.1, e.2] at hst; rw [hst, hI.2.2.2.1, hI.2.2.2.2.1]) | (have e : subA (s.2 7) (s.2 8) a2 a3 (2 * x5) = s.2 8 (4 * a3) ∧ subA (s.2 7) (s.2 8) a2 a3 (2 * x5 + 1) = s.2 8 (4 * a3 + 1) := (by rw [show x5 = a2 by omega]; exact subA_y _ _ _ _); rw [e.1, e.2] at hst; rw [hst, hI.2.2.2.1, hI.2.2.2.2.1, hI.2.1]) | (unfold slpV; rw [if_pos (Or.inl c_3)]) | (unfold slpV; rw [if_pos (Or.inr c_6)]) | (exact fun h => h.elim (fun q => q c_3) (fun q => q c_6)) | grind [upI])
theorem vX3_slipped_16 (s : MS) (a1 : Int) (a2 : Int) (a3 : Int) (hp : tOK (s.2 6) ∧ aOK (s.2 6) (s.2 7) ∧ sOK (s.2 6) (s.2 8) ∧ (0 ≤ a1 ∧ a1 < (s.2 6) 2) ∧ (0 ≤ a2 ∧ a2 < (s.2 6) 3) ∧ (0 ≤ a3 ∧ a3 < (s.2 6) 4)) (o_1 : (0 ≤ (i32 (2 * a2)) ∧ (i32 (2 * a2)) < 120)) (o_2 : (0 ≤ (i32 ((i32 (4 * a3)) + 2)) ∧ (i32 ((i32 (4 * a3)) + 2)) < 120)) (c_3 : (s.2 7 (i32 (2 * a2))) = (s.2 8 (i32 ((i32 (4 * a3)) + 2)))) (o_4 : (0 ≤ (i32 ((i32 (2 * a2)) + 1)) ∧ (i32 ((i32 (2 * a2)) + 1)) < 120)) : (0 ≤ (i32 ((i32 (4 * a3)) + 3)) ∧ (i32 ((i32 (4 * a3)) + 3)) < 120) := by
  obtain ⟨ht, ha, hs, h1, h2, h3⟩ := hp
  have hW := tOK_W ht
  have hS := tOK_S ht
  have hN := tOK_N ht
  (try (have b := thrS_b (a := (subA (s.2 7) (s.2 8) a2 a3)) h1 x5.toNat; rw [← hI.2.2.2.1, ← hI.2.2.2.2.1] at b))
  (try have hst := thrS_s (s.2 6) (subA (s.2 7) (s.2 8) a2 a3) a1 hI.2.2.1.1)
  (try unfold lex3)
  (try simp only [bI_0, bI_n, Classical.not_not] at *)
  (try simp (disch := omega) only [i32_id] at *)
  first | done | omega | ((repeat' (with_reducible apply And.intro)) <;> first | assumption | rfl | omega | (exact hI.2.2.2.2.2) | (unfold slpV; rw [if_neg hI.2.2.2.2.2, hI.2.2.2.1, show x5 = s.2 6 3 by omega]) | (exact ha x5 (by omega) (by omega)) | (rw [hI.2.1]; exact (hs a3 h3.1 h3.2).1) | (have e := subA_n (s.2 7) (s.2 8) (i := a2) (s := a3) (k := x5) (by omega); rw [e.1, e.2] at hst; rw [hst, hI.2.2.2.1, hI.2.2.2.2.1]) | (have e : subA (s.2 7) (s.2 8) a2 a3 (2 * x5) = s.2 8 (4 * a3) ∧ subA (s.2 7) (s.2 8) a2 a3 (2 * x5 + 1) = s.2 8 (4 * a3 + 1) := (by rw [show x5 = a2 by omega]; exact subA_y _ _ _ _); rw [e.1, e.2] at hst; rw [hst, hI.2.2.2.1, hI.2.2.2.2.1, hI.2.1]) | (unfold slpV; rw [if_pos (Or.inl c_3)]) | (unfold slpV; rw [if_pos (Or.inr c_6)]) | (exact fun h => h.elim (fun q => q c_3) (fun q => q c_6)) | grind [upI])
theorem vX3_slipped_17 (s : MS) (a1 : Int) (a2 : Int) (a3 : Int) (hp : tOK (s.2 6) ∧ aOK (s.2 6) (s.2 7) ∧ sOK (s.2 6) (s.2 8) ∧ (0 ≤ a1 ∧ a1 < (s.2 6) 2) ∧ (0 ≤ a2 ∧ a2 < (s.2 6) 3) ∧ (0 ≤ a3 ∧ a3 < (s.2 6) 4)) (o_1 : (0 ≤ (i32 (2 * a2)) ∧ (i32 (2 * a2)) < 120)) (o_2 : (0 ≤ (i32 ((i32 (4 * a3)) + 2)) ∧ (i32 ((i32 (4 * a3)) + 2)) < 120)) (c_3 : (s.2 7 (i32 (2 * a2))) = (s.2 8 (i32 ((i32 (4 * a3)) + 2)))) (o_4 : (0 ≤ (i32 ((i32 (2 * a2)) + 1)) ∧ (i32 ((i32 (2 * a2)) + 1)) < 120)) (o_5 : (0 ≤ (i32 ((i32 (4 * a3)) + 3)) ∧ (i32 ((i32 (4 * a3)) + 3)) < 120)) (c_6 : (s.2 7 (i32 ((i32 (2 * a2)) + 1))) = (s.2 8 (i32 ((i32 (4 * a3)) + 3)))) : a2 = a2 ∧ a3 = a3 ∧ (0 ≤ (0 : Int) ∧ (0 : Int) ≤ s.2 6 3) ∧ a1 = (thrS (s.2 6) (subA (s.2 7) (s.2 8) a2 a3) a1 (0 : Int).toNat).2 ∧ a1 = (thrS (s.2 6) (subA (s.2 7) (s.2 8) a2 a3) a1 (0 : Int).toNat).1 ∧ ¬ (s.2 7 (2 * a2) ≠ s.2 8 (4 * a3 + 2) ∨ s.2 7 (2 * a2 + 1) ≠ s.2 8 (4 * a3 + 3)) := by
  obtain ⟨ht, ha, hs, h1, h2, h3⟩ := hp
  have hW := tOK_W ht
  have hS := tOK_S ht
  have hN := tOK_N ht
  (try (have b := thrS_b (a := (subA (s.2 7) (s.2 8) a2 a3)) h1 x5.toNat; rw [← hI.2.2.2.1, ← hI.2.2.2.2.1] at b))
  (try have hst := thrS_s (s.2 6) (subA (s.2 7) (s.2 8) a2 a3) a1 hI.2.2.1.1)
  (try unfold lex3)
  (try simp only [bI_0, bI_n, Classical.not_not] at *)
  (try simp (disch := omega) only [i32_id] at *)
  first | done | omega | ((repeat' (with_reducible apply And.intro)) <;> first | assumption | rfl | omega | (exact hI.2.2.2.2.2) | (unfold slpV; rw [if_neg hI.2.2.2.2.2, hI.2.2.2.1, show x5 = s.2 6 3 by omega]) | (exact ha x5 (by omega) (by omega)) | (rw [hI.2.1]; exact (hs a3 h3.1 h3.2).1) | (have e := subA_n (s.2 7) (s.2 8) (i := a2) (s := a3) (k := x5) (by omega); rw [e.1, e.2] at hst; rw [hst, hI.2.2.2.1, hI.2.2.2.2.1]) | (have e : subA (s.2 7) (s.2 8) a2 a3 (2 * x5) = s.2 8 (4 * a3) ∧ subA (s.2 7) (s.2 8) a2 a3 (2 * x5 + 1) = s.2 8 (4 * a3 + 1) := (by rw [show x5 = a2 by omega]; exact subA_y _ _ _ _); rw [e.1, e.2] at hst; rw [hst, hI.2.2.2.1, hI.2.2.2.2.1, hI.2.1]) | (unfold slpV; rw [if_pos (Or.inl c_3)]) | (unfold slpV; rw [if_pos (Or.inr c_6)]) | (exact fun h => h.elim (fun q => q c_3) (fun q => q c_6)) | grind [upI])
theorem vX3_slipped_18 (s : MS) (a1 : Int) (a2 : Int) (a3 : Int) (hp : tOK (s.2 6) ∧ aOK (s.2 6) (s.2 7) ∧ sOK (s.2 6) (s.2 8) ∧ (0 ≤ a1 ∧ a1 < (s.2 6) 2) ∧ (0 ≤ a2 ∧ a2 < (s.2 6) 3) ∧ (0 ≤ a3 ∧ a3 < (s.2 6) 4)) (o_1 : (0 ≤ (i32 (2 * a2)) ∧ (i32 (2 * a2)) < 120)) (o_2 : (0 ≤ (i32 ((i32 (4 * a3)) + 2)) ∧ (i32 ((i32 (4 * a3)) + 2)) < 120)) (c_3 : (s.2 7 (i32 (2 * a2))) = (s.2 8 (i32 ((i32 (4 * a3)) + 2)))) (o_4 : (0 ≤ (i32 ((i32 (2 * a2)) + 1)) ∧ (i32 ((i32 (2 * a2)) + 1)) < 120)) (o_5 : (0 ≤ (i32 ((i32 (4 * a3)) + 3)) ∧ (i32 ((i32 (4 * a3)) + 3)) < 120)) (c_6 : ¬ (s.2 7 (i32 ((i32 (2 * a2)) + 1))) = (s.2 8 (i32 ((i32 (4 * a3)) + 3)))) : (-1) = (slpV (s.2 6) (s.2 7) (s.2 8) a1 a2 a3) := by
  obtain ⟨ht, ha, hs, h1, h2, h3⟩ := hp
  have hW := tOK_W ht
  have hS := tOK_S ht
  have hN := tOK_N ht
  (try (have b := thrS_b (a := (subA (s.2 7) (s.2 8) a2 a3)) h1 x5.toNat; rw [← hI.2.2.2.1, ← hI.2.2.2.2.1] at b))
  (try have hst := thrS_s (s.2 6) (subA (s.2 7) (s.2 8) a2 a3) a1 hI.2.2.1.1)
  (try unfold lex3)
  (try simp only [bI_0, bI_n, Classical.not_not] at *)
  (try simp (disch := omega) only [i32_id] at *)
  first | done | omega | ((repeat' (with_reducible apply And.intro)) <;> first | assumption | rfl | omega | (exact hI.2.2.2.2.2) | (unfold slpV; rw [if_neg hI.2.2.2.2.2, hI.2.2.2.1, show x5 = s.2 6 3 by omega]) | (exact ha x5 (by omega) (by omega)) | (rw [hI.2.1]; exact (hs a3 h3.1 h3.2).1) | (have e := subA_n (s.2 7) (s.2 8) (i := a2) (s := a3) (k := x5) (by omega); rw [e.1, e.2] at hst; rw [hst, hI.2.2.2.1, hI.2.2.2.2.1]) | (have e : subA (s.2 7) (s.2 8) a2 a3 (2 * x5) = s.2 8 (4 * a3) ∧ subA (s.2 7) (s.2 8) a2 a3 (2 * x5 + 1) = s.2 8 (4 * a3 + 1) := (by rw [show x5 = a2 by omega]; exact subA_y _ _ _ _); rw [e.1, e.2] at hst; rw [hst, hI.2.2.2.1, hI.2.2.2.2.1, hI.2.1]) | (unfold slpV; rw [if_pos (Or.inl c_3)]) | (unfold slpV; rw [if_pos (Or.inr c_6)]) | (exact fun h => h.elim (fun q => q c_3) (fun q => q c_6)) | grind [upI])
theorem allX3_slipped (b : AH) (s : MS) (a1 : Int) (a2 : Int) (a3 : Int) (hp : tOK (s.2 6) ∧ aOK (s.2 6) (s.2 7) ∧ sOK (s.2 6) (s.2 8) ∧ (0 ≤ a1 ∧ a1 < (s.2 6) 2) ∧ (0 ≤ a2 ∧ a2 < (s.2 6) 3) ∧ (0 ≤ a3 ∧ a3 < (s.2 6) 4)) : ∀ m1 m2 m3 : Nat, (∀ (x2 : Int) (x3 : Int) (x4 : Int) (x5 : Int) (f11 : Int → Int) (f12 : Int → Int) (k25 : Int), m1 = 0 → m2 = 0 → m3 = ((s.2 6 3 - x5).toNat) → (x2 = a2 ∧ x3 = a3 ∧ (0 ≤ x5 ∧ x5 ≤ s.2 6 3) ∧ x4 = (thrS (s.2 6) (subA (s.2 7) (s.2 8) a2 a3) a1 x5.toNat).2 ∧ k25 = (thrS (s.2 6) (subA (s.2 7) (s.2 8) a2 a3) a1 x5.toNat).1 ∧ ¬ (s.2 7 (2 * a2) ≠ s.2 8 (4 * a3 + 2) ∨ s.2 7 (2 * a2 + 1) ≠ s.2 8 (4 * a3 + 3))) → HX3_slipped_57 (QX3_slipped s a1 a2 a3) b s x2 x3 x4 x5 f11 f12 k25) := by
  refine lex3_ind ?_
  intro m1 m2 m3 ih
  rintro x2 x3 x4 x5 f11 f12 k25 rfl rfl rfl hI
  refine bX3_slipped_57 b s x2 x3 x4 x5 f11 f12 k25 ?_
  refine ⟨fun c_1 => ?_, fun c_1 => ?_⟩
  · exact ⟨f11, f12, k25, (rI_c (vX3_slipped_1 s a1 a2 a3 hp x2 x3 x4 x5 f11 f12 k25 hI c_1)), rfl⟩
  · refine ⟨fun c_2 => ?_, fun c_2 => ?_⟩
    · have o_3 : (0 ≤ (i32 (2 * x5)) ∧ (i32 (2 * x5)) < 120) := (vX3_slipped_2 s a1 a2 a3 hp x2 x3 x4 x5 f11 f12 k25 hI c_1 c_2)
      refine ⟨o_3, ?_⟩
      have o_4 : (0 ≤ (i32 ((i32 (2 * x5)) + 1)) ∧ (i32 ((i32 (2 * x5)) + 1)) < 120) := (vX3_slipped_3 s a1 a2 a3 hp x2 x3 x4 x5 f11 f12 k25 hI c_1 c_2 o_3)
      refine ⟨o_4, ?_⟩
      have o_5 : (tOK (s.2 6) ∧ 0 ≤ x4 ∧ x4 < (s.2 6) 2 ∧ (0 ≤ k25 ∧ k25 < (s.2 6) 2) ∧ wOK ((s.2 6) 0) (s.2 7 (i32 (2 * x5))) (s.2 7 (i32 ((i32 (2 * x5)) + 1)))) := (vX3_slipped_4 s a1 a2 a3 hp x2 x3 x4 x5 f11 f12 k25 hI c_1 c_2 o_3 o_4)
      refine ⟨o_5, ?_⟩
      intro f_6 f_7
      exact (ih _ _ _ (vX3_slipped_6 s a1 a2 a3 hp x2 x3 x4 x5 f11 f12 k25 hI c_1 c_2 o_3 o_4 o_5 f_6 f_7)) x2 x3 (wdo (s.2 6) k25 x4 (s.2 7 (i32 (2 * x5))) (s.2 7 (i32 ((i32 (2 * x5)) + 1)))) (i32 (x5 + 1)) f_6 f_7 (wkp k25 x4 (s.2 7 (i32 (2 * x5)))) rfl rfl rfl (vX3_slipped_5 s a1 a2 a3 hp x2 x3 x4 x5 f11 f12 k25 hI c_1 c_2 o_3 o_4 o_5 f_6 f_7)
    · have o_9 : (0 ≤ (i32 (4 * x3)) ∧ (i32 (4 * x3)) < 120) := (vX3_slipped_7 s a1 a2 a3 hp x2 x3 x4 x5 f11 f12 k25 hI c_1 c_2)
      refine ⟨o_9, ?_⟩
      have o_10 : (0 ≤ (i32 ((i32 (4 * x3)) + 1)) ∧ (i32 ((i32 (4 * x3)) + 1)) < 120) := (vX3_slipped_8 s a1 a2 a3 hp x2 x3 x4 x5 f11 f12 k25 hI c_1 c_2 o_9)
      refine ⟨o_10, ?_⟩
      have o_11 : (tOK (s.2 6) ∧ 0 ≤ x4 ∧ x4 < (s.2 6) 2 ∧ (0 ≤ k25 ∧ k25 < (s.2 6) 2) ∧ wOK ((s.2 6) 0) (s.2 8 (i32 (4 * x3))) (s.2 8 (i32 ((i32 (4 * x3)) + 1)))) := (vX3_slipped_9 s a1 a2 a3 hp x2 x3 x4 x5 f11 f12 k25 hI c_1 c_2 o_9 o_10)
      refine ⟨o_11, ?_⟩
      intro f_12 f_13
      exact (ih _ _ _ (vX3_slipped_11 s a1 a2 a3 hp x2 x3 x4 x5 f11 f12 k25 hI c_1 c_2 o_9 o_10 o_11 f_12 f_13)) x2 x3 (wdo (s.2 6) k25 x4 (s.2 8 (i32 (4 * x3))) (s.2 8 (i32 ((i32 (4 * x3)) + 1)))) (i32 (x5 + 1)) f_12 f_13 (wkp k25 x4 (s.2 8 (i32 (4 * x3)))) rfl rfl rfl (vX3_slipped_10 s a1 a2 a3 hp x2 x3 x4 x5 f11 f12 k25 hI c_1 c_2 o_9 o_10 o_11 f_12 f_13)
theorem ctX3_slipped (b : AH) (s : MS) (a1 : Int) (a2 : Int) (a3 : Int) (hp : tOK (s.2 6) ∧ aOK (s.2 6) (s.2 7) ∧ sOK (s.2 6) (s.2 8) ∧ (0 ≤ a1 ∧ a1 < (s.2 6) 2) ∧ (0 ≤ a2 ∧ a2 < (s.2 6) 3) ∧ (0 ≤ a3 ∧ a3 < (s.2 6) 4)) : MC mX3_slipped 5 b s [vI a1, vI a2, vI a3] (QX3_slipped s a1 a2 a3) := by
  refine MC.of (by decide) rfl (Nat.le_of_ble_eq_true rfl) (JW.steq (s2 := sS (sA (sA s 11 (s.2 11)) 12 (s.2 12)) 25 (s.1 25)) (by simp only [sA_id, sS_id]) ?_)
  refine bX3_slipped_0 b s a1 a2 a3 (s.2 11) (s.2 12) (s.1 25) ?_
  have o_1 : (0 ≤ (i32 (2 * a2)) ∧ (i32 (2 * a2)) < 120) := (vX3_slipped_12 s a1 a2 a3 hp)
  refine ⟨o_1, ?_⟩
  have o_2 : (0 ≤ (i32 ((i32 (4 * a3)) + 2)) ∧ (i32 ((i32 (4 * a3)) + 2)) < 120) := (vX3_slipped_13 s a1 a2 a3 hp o_1)
  refine ⟨o_2, ?_⟩
  refine ⟨fun c_3 => ?_, fun c_3 => ?_⟩
  · exact ⟨(s.2 11), (s.2 12), (s.1 25), (rI_c (vX3_slipped_14 s a1 a2 a3 hp o_1 o_2 c_3)), rfl⟩
  · have o_4 : (0 ≤ (i32 ((i32 (2 * a2)) + 1)) ∧ (i32 ((i32 (2 * a2)) + 1)) < 120) := (vX3_slipped_15 s a1 a2 a3 hp o_1 o_2 c_3)
    refine ⟨o_4, ?_⟩
    have o_5 : (0 ≤ (i32 ((i32 (4 * a3)) + 3)) ∧ (i32 ((i32 (4 * a3)) + 3)) < 120) := (vX3_slipped_16 s a1 a2 a3 hp o_1 o_2 c_3 o_4)
    refine ⟨o_5, ?_⟩
    refine ⟨fun c_6 => ?_, fun c_6 => ?_⟩
    · exact (allX3_slipped b s a1 a2 a3 hp _ _ _) a2 a3 a1 0 (s.2 11) (s.2 12) a1 rfl rfl rfl (vX3_slipped_17 s a1 a2 a3 hp o_1 o_2 c_3 o_4 o_5 c_6)
    · exact ⟨(s.2 11), (s.2 12), (s.1 25), (rI_c (vX3_slipped_18 s a1 a2 a3 hp o_1 o_2 c_3 o_4 o_5 c_6)), rfl⟩
def HX3_slip_0 (Q : Option AV → MS → Prop) (b : AH) (s : MS) (x1 : Int) (x2 : Int) (x3 : Int) (f11 : Int → Int) (f12 : Int → Int) (f13 : Int → Int) (f14 : Int → Int) (f15 : Int → Int) (f16 : Int → Int) (f17 : Int → Int) (f18 : Int → Int) (f19 : Int → Int) (k0 : Int) (k25 : Int) (k33 : Int) (k34 : Int) : Prop := MW mX3_slip 8 Q b 0 [(0, vR 351), (1, vI x1), (2, vI x2), (3, vI x3)] [] (sS (sS (sS (sS (sA (sA (sA (sA (sA (sA (sA (sA (sA s 11 f11) 12 f12) 13 f13) 14 f14) 15 f15) 16 f16) 17 f17) 18 f18) 19 f19) 0 k0) 25 k25) 33 k33) 34 k34)
theorem bX3_slip_0 {Q : Option AV → MS → Prop} (b : AH) (s : MS) (x1 : Int) (x2 : Int) (x3 : Int) (f11 : Int → Int) (f12 : Int → Int) (f13 : Int → Int) (f14 : Int → Int) (f15 : Int → Int) (f16 : Int → Int) (f17 : Int → Int) (f18 : Int → Int) (f19 : Int → Int) (k0 : Int) (k25 : Int) (k33 : Int) (k34 : Int) (K : (tOK (s.2 6)) ∧ (((bI (0 ≤ x1 ∧ x1 < (s.2 6) 2)) = 0 → Q (some (vI (-2))) (sS (sS (sS (sS (sA (sA (sA (sA (sA (sA (sA (sA (sA s 11 f11) 12 f12) 13 f13) 14 f14) 15 f15) 16 f16) 17 f17) 18 f18) 19 f19) 0 0) 25 k25) 33 k33) 34 k34)) ∧ (¬ (bI (0 ≤ x1 ∧ x1 < (s.2 6) 2)) = 0 → ((bI (0 ≤ x2 ∧ x2 < (s.2 6) 3)) = 0 → Q (some (vI (-2))) (sS (sS (sS (sS (sA (sA (sA (sA (sA (sA (sA (sA (sA s 11 f11) 12 f12) 13 f13) 14 f14) 15 f15) 16 f16) 17 f17) 18 f18) 19 f19) 0 0) 25 k25) 33 k33) 34 k34)) ∧ (¬ (bI (0 ≤ x2 ∧ x2 < (s.2 6) 3)) = 0 → (¬ (bI ((0 : Int) ≤ x3 ∧ x3 ≤ (i32 ((s.2 6 4) - 1)))) = 0 → (tOK (s.2 6) ∧ aOK (s.2 6) (s.2 7) ∧ sOK (s.2 6) (s.2 8) ∧ (0 ≤ x1 ∧ x1 < (s.2 6) 2) ∧ (0 ≤ x2 ∧ x2 < (s.2 6) 3) ∧ (0 ≤ x3 ∧ x3 < (s.2 6) 4)) ∧ ((∀ (f_9 : Int → Int) (f_10 : Int → Int) (k_11 : Int), (¬ (slpV (s.2 6) (s.2 7) (s.2 8) x1 x2 x3) = (-1) → Q (some (vI (slpV (s.2 6) (s.2 7) (s.2 8) x1 x2 x3))) (sS (sS (sS (sS (sA (sA (sA (sA (sA (sA (sA (sA (sA s 11 f_9) 12 f_10) 13 f13) 14 f14) 15 f15) 16 f16) 17 f17) 18 f18) 19 f19) 0 0) 25 k_11) 33 k33) 34 k34)) ∧ ((slpV (s.2 6) (s.2 7) (s.2 8) x1 x2 x3) = (-1) → Q (some (vI (-2))) (sS (sS (sS (sS (sA (sA (sA (sA (sA (sA (sA (sA (sA s 11 f_9) 12 f_10) 13 f13) 14 f14) 15 f15) 16 f16) 17 f17) 18 f18) 19 f19) 0 0) 25 k_11) 33 k33) 34 k34))))) ∧ ((bI ((0 : Int) ≤ x3 ∧ x3 ≤ (i32 ((s.2 6 4) - 1)))) = 0 → Q (some (vI (-2))) (sS (sS (sS (sS (sA (sA (sA (sA (sA (sA (sA (sA (sA s 11 f11) 12 f12) 13 f13) 14 f14) 15 f15) 16 f16) 17 f17) 18 f18) 19 f19) 0 0) 25 k25) 33 k33) 34 k34)))))) : HX3_slip_0 Q b s x1 x2 x3 f11 f12 f13 f14 f15 f16 f17 f18 f19 k0 k25 k33 k34 := by
  refine JW.aload_n dX3_slip_0 rfl ?_
  refine JW.iconst dX3_slip_1 rfl ?_
  refine JW.mputI dX3_slip_2 (pX3_77 _) rfl ?_
  refine JW.steq (s2 := sS (sS (sS (sS (sA (sA (sA (sA (sA (sA (sA (sA (sA s 11 f11) 12 f12) 13 f13) 14 f14) 15 f15) 16 f16) 17 f17) 18 f18) 19 f19) 0 0) 25 k25) 33 k33) 34 k34) (by simp only [sA_A, sS_S, sA_S, sA_lt, sS_lt, Nat.reduceLT, id_eq] <;> rfl) ?_
  refine JW.aload_n dX3_slip_5 rfl ?_
  refine JW.iload_n dX3_slip_6 rfl ?_
  refine JW.i2l dX3_slip_7 ?_
  obtain ⟨o_1, K⟩ := K
  refine JW.mcall (As := [vL x1]) dX3_slip_8 vX3_isNumber rfl q1806 (ctX3_isNumber b (sS (sS (sS (sS (sA (sA (sA (sA (sA (sA (sA (sA (sA s 11 f11) 12 f12) 13 f13) 14 f14) 15 f15) 16 f16) 17 f17) 18 f18) 19 f19) 0 0) 25 k25) 33 k33) 34 k34) x1 o_1) (Nat.le_of_ble_eq_true rfl) rfl (Nat.le_of_ble_eq_true rfl) ?_
  rintro _ _ ⟨rfl, eq_2⟩
  refine JW.steq (s2 := sS (sS (sS (sS (sA (sA (sA (sA (sA (sA (sA (sA (sA s 11 f11) 12 f12) 13 f13) 14 f14) 15 f15) 16 f16) 17 f17) 18 f18) 19 f19) 0 0) 25 k25) 33 k33) 34 k34) eq_2 ?_
  refine JW.if_eq (tgt := 40) dX3_slip_11 rfl (fun c_3 => ?_) (fun c_3 => ?_)
  · have K := K.1 c_3
    refine JW.bipush dX3_slip_40 rfl ?_
    exact JW.ireturn dX3_slip_42 rfl rfl ⟨_, rfl, K⟩
  · have K := K.2 c_3
    refine JW.aload_n dX3_slip_14 rfl ?_
    refine JW.iload_n dX3_slip_15 rfl ?_
    refine JW.mcall (As := [vI x2]) dX3_slip_16 vX3_isWord rfl q1784 (ctX3_isWord b (sS (sS (sS (sS (sA (sA (sA (sA (sA (sA (sA (sA (sA s 11 f11) 12 f12) 13 f13) 14 f14) 15 f15) 16 f16) 17 f17) 18 f18) 19 f19) 0 0) 25 k25) 33 k33) 34 k34) x2 o_1) (Nat.le_of_ble_eq_true rfl) rfl (Nat.le_of_ble_eq_true rfl) ?_
    rintro _ _ ⟨rfl, eq_4⟩
    refine JW.steq (s2 := sS (sS (sS (sS (sA (sA (sA (sA (sA (sA (sA (sA (sA s 11 f11) 12 f12) 13 f13) 14 f14) 15 f15) 16 f16) 17 f17) 18 f18) 19 f19) 0 0) 25 k25) 33 k33) 34 k34) eq_4 ?_
    refine JW.if_eq (tgt := 40) dX3_slip_19 rfl (fun c_5 => ?_) (fun c_5 => ?_)
    · have K := K.1 c_5
      refine JW.bipush dX3_slip_40 rfl ?_
      exact JW.ireturn dX3_slip_42 rfl rfl ⟨_, rfl, K⟩
    · have K := K.2 c_5
      refine JW.iload_n dX3_slip_22 rfl ?_
      refine JW.i2l dX3_slip_23 ?_
      refine JW.lconst (x := 0) dX3_slip_24 rfl ?_
      refine JW.aload_n dX3_slip_25 rfl ?_
      refine JW.mget (v := vR 358) dX3_slip_26 fX3_34 rfl ?_
      refine JW.iconst dX3_slip_29 rfl ?_
      refine JW.mald 6 (x := (s.2 6 4)) dX3_slip_30 (Nat.le_of_ble_eq_true rfl) rfl (by decide) (by decide) rfl ?_
      refine JW.iconst dX3_slip_31 rfl ?_
      refine JW.isub dX3_slip_32 ?_
      refine JW.i2l dX3_slip_33 ?_
      refine JW.mcallS (As := [vL x3, vL 0, vL (i32 ((s.2 6 4) - 1))]) dX3_slip_34 vX3_in q1632 (ctX3_in b (sS (sS (sS (sS (sA (sA (sA (sA (sA (sA (sA (sA (sA s 11 f11) 12 f12) 13 f13) 14 f14) 15 f15) 16 f16) 17 f17) 18 f18) 19 f19) 0 0) 25 k25) 33 k33) 34 k34) x3 0 (i32 ((s.2 6 4) - 1))) (Nat.le_of_ble_eq_true rfl) rfl (Nat.le_of_ble_eq_true rfl) ?_
      rintro _ _ ⟨rfl, eq_6⟩
      refine JW.steq (s2 := sS (sS (sS (sS (sA (sA (sA (sA (sA (sA (sA (sA (sA s 11 f11) 12 f12) 13 f13) 14 f14) 15 f15) 16 f16) 17 f17) 18 f18) 19 f19) 0 0) 25 k25) 33 k33) 34 k34) eq_6 ?_
      refine JW.if_ne (tgt := 43) dX3_slip_37 rfl (fun c_7 => ?_) (fun c_7 => ?_)
      · have K := K.1 c_7
        refine JW.aload_n dX3_slip_43 rfl ?_
        refine JW.iload_n dX3_slip_44 rfl ?_
        refine JW.iload_n dX3_slip_45 rfl ?_
        refine JW.iload_n dX3_slip_46 rfl ?_
        obtain ⟨o_8, K⟩ := K
        refine JW.mcall (As := [vI x1, vI x2, vI x3]) dX3_slip_47 vX3_slipped rfl q2041 (ctX3_slipped b (sS (sS (sS (sS (sA (sA (sA (sA (sA (sA (sA (sA (sA s 11 f11) 12 f12) 13 f13) 14 f14) 15 f15) 16 f16) 17 f17) 18 f18) 19 f19) 0 0) 25 k25) 33 k33) 34 k34) x1 x2 x3 o_8) (Nat.le_of_ble_eq_true rfl) rfl (Nat.le_of_ble_eq_true rfl) ?_
        rintro _ _ ⟨f_9, f_10, k_11, rfl, rfl⟩
        refine JW.steq (s2 := sS (sS (sS (sS (sA (sA (sA (sA (sA (sA (sA (sA (sA s 11 f_9) 12 f_10) 13 f13) 14 f14) 15 f15) 16 f16) 17 f17) 18 f18) 19 f19) 0 0) 25 k_11) 33 k33) 34 k34) (by simp only [sA_A, sS_S, sA_S, sA_lt, sS_lt, Nat.reduceLT, id_eq] <;> rfl) ?_
        replace K := K f_9 f_10 k_11
        refine JW.istore (ls' := [(0, vR 351), (1, vI x1), (2, vI x2), (3, vI x3), (4, vI (slpV (s.2 6) (s.2 7) (s.2 8) x1 x2 x3))]) dX3_slip_50 (Nat.le_of_ble_eq_true rfl) rfl ?_
        refine JW.iload dX3_slip_52 rfl ?_
        refine JW.iconst dX3_slip_54 rfl ?_
        refine JW.icmp_ne (tgt := 63) dX3_slip_55 rfl (fun c_13 => ?_) (fun c_13 => ?_)
        · have K := K.1 c_13
          refine JW.iload dX3_slip_63 rfl ?_
          exact JW.ireturn dX3_slip_65 rfl rfl ⟨_, rfl, K⟩
        · have K := K.2 c_13
          refine JW.bipush dX3_slip_58 rfl ?_
          refine JW.goto (tgt := 65) dX3_slip_60 rfl ?_
          exact JW.ireturn dX3_slip_65 rfl rfl ⟨_, rfl, K⟩
      · have K := K.2 c_7
        refine JW.bipush dX3_slip_40 rfl ?_
        exact JW.ireturn dX3_slip_42 rfl rfl ⟨_, rfl, K⟩
def QX3_slip (s : MS) (a1 : Int) (a2 : Int) (a3 : Int) : Option AV → MS → Prop := fun v s' => ∃ (f11 : Int → Int) (f12 : Int → Int) (f13 : Int → Int) (f14 : Int → Int) (f15 : Int → Int) (f16 : Int → Int) (f17 : Int → Int) (f18 : Int → Int) (f19 : Int → Int) (k25 : Int) (k33 : Int) (k34 : Int), v = some (vI (rSlip (s.2 6) (s.2 7) (s.2 8) a1 a2 a3)) ∧ s' = sS (sS (sS (sS (sA (sA (sA (sA (sA (sA (sA (sA (sA s 11 f11) 12 f12) 13 f13) 14 f14) 15 f15) 16 f16) 17 f17) 18 f18) 19 f19) 0 (0)) 25 k25) 33 k33) 34 k34
theorem vX3_slip_1 (s : MS) (a1 : Int) (a2 : Int) (a3 : Int) (hp : tOK (s.2 6) ∧ aOK (s.2 6) (s.2 7) ∧ sOK (s.2 6) (s.2 8)) : (tOK (s.2 6)) := by
  obtain ⟨ht, ha, hs⟩ := hp
  have hW := tOK_W ht
  have hS := tOK_S ht
  have hN := tOK_N ht
  (try simp only [bI_0, bI_n, Classical.not_not] at *)
  (try unfold lex3)
  (try simp only [bI_0, bI_n, Classical.not_not] at *)
  (try simp (disch := omega) only [i32_id] at *)
  first | done | omega | ((repeat' (with_reducible apply And.intro)) <;> first | assumption | rfl | omega | (unfold rSlip; rw [if_neg (by omega)]) | (unfold rSlip; rw [if_pos (by omega), if_pos (by assumption)]) | (unfold rSlip; rw [if_pos (by omega), if_neg (by assumption)]) | grind [upI])
theorem vX3_slip_2 (s : MS) (a1 : Int) (a2 : Int) (a3 : Int) (hp : tOK (s.2 6) ∧ aOK (s.2 6) (s.2 7) ∧ sOK (s.2 6) (s.2 8)) (o_1 : (tOK (s.2 6))) (c_3 : (bI (0 ≤ a1 ∧ a1 < (s.2 6) 2)) = 0) : (-2) = (rSlip (s.2 6) (s.2 7) (s.2 8) a1 a2 a3) := by
  obtain ⟨ht, ha, hs⟩ := hp
  have hW := tOK_W ht
  have hS := tOK_S ht
  have hN := tOK_N ht
  (try simp only [bI_0, bI_n, Classical.not_not] at *)
  (try unfold lex3)
  (try simp only [bI_0, bI_n, Classical.not_not] at *)
  (try simp (disch := omega) only [i32_id] at *)
  first | done | omega | ((repeat' (with_reducible apply And.intro)) <;> first | assumption | rfl | omega | (unfold rSlip; rw [if_neg (by omega)]) | (unfold rSlip; rw [if_pos (by omega), if_pos (by assumption)]) | (unfold rSlip; rw [if_pos (by omega), if_neg (by assumption)]) | grind [upI])
theorem vX3_slip_3 (s : MS) (a1 : Int) (a2 : Int) (a3 : Int) (hp : tOK (s.2 6) ∧ aOK (s.2 6) (s.2 7) ∧ sOK (s.2 6) (s.2 8)) (o_1 : (tOK (s.2 6))) (c_3 : ¬ (bI (0 ≤ a1 ∧ a1 < (s.2 6) 2)) = 0) (c_5 : (bI (0 ≤ a2 ∧ a2 < (s.2 6) 3)) = 0) : (-2) = (rSlip (s.2 6) (s.2 7) (s.2 8) a1 a2 a3) := by
  obtain ⟨ht, ha, hs⟩ := hp
  have hW := tOK_W ht
  have hS := tOK_S ht
  have hN := tOK_N ht
  (try simp only [bI_0, bI_n, Classical.not_not] at *)
  (try unfold lex3)
  (try simp only [bI_0, bI_n, Classical.not_not] at *)
  (try simp (disch := omega) only [i32_id] at *)
  first | done | omega | ((repeat' (with_reducible apply And.intro)) <;> first | assumption | rfl | omega | (unfold rSlip; rw [if_neg (by omega)]) | (unfold rSlip; rw [if_pos (by omega), if_pos (by assumption)]) | (unfold rSlip; rw [if_pos (by omega), if_neg (by assumption)]) | grind [upI])
theorem vX3_slip_4 (s : MS) (a1 : Int) (a2 : Int) (a3 : Int) (hp : tOK (s.2 6) ∧ aOK (s.2 6) (s.2 7) ∧ sOK (s.2 6) (s.2 8)) (o_1 : (tOK (s.2 6))) (c_3 : ¬ (bI (0 ≤ a1 ∧ a1 < (s.2 6) 2)) = 0) (c_5 : ¬ (bI (0 ≤ a2 ∧ a2 < (s.2 6) 3)) = 0) (c_7 : ¬ (bI ((0 : Int) ≤ a3 ∧ a3 ≤ (i32 ((s.2 6 4) - 1)))) = 0) : (tOK (s.2 6) ∧ aOK (s.2 6) (s.2 7) ∧ sOK (s.2 6) (s.2 8) ∧ (0 ≤ a1 ∧ a1 < (s.2 6) 2) ∧ (0 ≤ a2 ∧ a2 < (s.2 6) 3) ∧ (0 ≤ a3 ∧ a3 < (s.2 6) 4)) := by
  obtain ⟨ht, ha, hs⟩ := hp
  have hW := tOK_W ht
  have hS := tOK_S ht
  have hN := tOK_N ht
  (try simp only [bI_0, bI_n, Classical.not_not] at *)
  (try unfold lex3)
  (try simp only [bI_0, bI_n, Classical.not_not] at *)
  (try simp (disch := omega) only [i32_id] at *)
  first | done | omega | ((repeat' (with_reducible apply And.intro)) <;> first | assumption | rfl | omega | (unfold rSlip; rw [if_neg (by omega)]) | (unfold rSlip; rw [if_pos (by omega), if_pos (by assumption)]) | (unfold rSlip; rw [if_pos (by omega), if_neg (by assumption)]) | grind [upI])
theorem vX3_slip_5 (s : MS) (a1 : Int) (a2 : Int) (a3 : Int) (hp : tOK (s.2 6) ∧ aOK (s.2 6) (s.2 7) ∧ sOK (s.2 6) (s.2 8)) (o_1 : (tOK (s.2 6))) (c_3 : ¬ (bI (0 ≤ a1 ∧ a1 < (s.2 6) 2)) = 0) (c_5 : ¬ (bI (0 ≤ a2 ∧ a2 < (s.2 6) 3)) = 0) (c_7 : ¬ (bI ((0 : Int) ≤ a3 ∧ a3 ≤ (i32 ((s.2 6 4) - 1)))) = 0) (o_8 : (tOK (s.2 6) ∧ aOK (s.2 6) (s.2 7) ∧ sOK (s.2 6) (s.2 8) ∧ (0 ≤ a1 ∧ a1 < (s.2 6) 2) ∧ (0 ≤ a2 ∧ a2 < (s.2 6) 3) ∧ (0 ≤ a3 ∧ a3 < (s.2 6) 4))) (f_9 : Int → Int) (f_10 : Int → Int) (k_11 : Int) (c_13 : ¬ (slpV (s.2 6) (s.2 7) (s.2 8) a1 a2 a3) = (-1)) : (slpV (s.2 6) (s.2 7) (s.2 8) a1 a2 a3) = (rSlip (s.2 6) (s.2 7) (s.2 8) a1 a2 a3) := by
  obtain ⟨ht, ha, hs⟩ := hp
  have hW := tOK_W ht
  have hS := tOK_S ht
  have hN := tOK_N ht
  (try simp only [bI_0, bI_n, Classical.not_not] at *)
  (try unfold lex3)
  (try simp only [bI_0, bI_n, Classical.not_not] at *)
  (try simp (disch := omega) only [i32_id] at *)
  first | done | omega | ((repeat' (with_reducible apply And.intro)) <;> first | assumption | rfl | omega | (unfold rSlip; rw [if_neg (by omega)]) | (unfold rSlip; rw [if_pos (by omega), if_pos (by assumption)]) | (unfold rSlip; rw [if_pos (by omega), if_neg (by assumption)]) | grind [upI])
theorem vX3_slip_6 (s : MS) (a1 : Int) (a2 : Int) (a3 : Int) (hp : tOK (s.2 6) ∧ aOK (s.2 6) (s.2 7) ∧ sOK (s.2 6) (s.2 8)) (o_1 : (tOK (s.2 6))) (c_3 : ¬ (bI (0 ≤ a1 ∧ a1 < (s.2 6) 2)) = 0) (c_5 : ¬ (bI (0 ≤ a2 ∧ a2 < (s.2 6) 3)) = 0) (c_7 : ¬ (bI ((0 : Int) ≤ a3 ∧ a3 ≤ (i32 ((s.2 6 4) - 1)))) = 0) (o_8 : (tOK (s.2 6) ∧ aOK (s.2 6) (s.2 7) ∧ sOK (s.2 6) (s.2 8) ∧ (0 ≤ a1 ∧ a1 < (s.2 6) 2) ∧ (0 ≤ a2 ∧ a2 < (s.2 6) 3) ∧ (0 ≤ a3 ∧ a3 < (s.2 6) 4))) (f_9 : Int → Int) (f_10 : Int → Int) (k_11 : Int) (c_13 : (slpV (s.2 6) (s.2 7) (s.2 8) a1 a2 a3) = (-1)) : (-2) = (rSlip (s.2 6) (s.2 7) (s.2 8) a1 a2 a3) := by
  obtain ⟨ht, ha, hs⟩ := hp
  have hW := tOK_W ht
  have hS := tOK_S ht
  have hN := tOK_N ht
  (try simp only [bI_0, bI_n, Classical.not_not] at *)
  (try unfold lex3)
  (try simp only [bI_0, bI_n, Classical.not_not] at *)
  (try simp (disch := omega) only [i32_id] at *)
  first | done | omega | ((repeat' (with_reducible apply And.intro)) <;> first | assumption | rfl | omega | (unfold rSlip; rw [if_neg (by omega)]) | (unfold rSlip; rw [if_pos (by omega), if_pos (by assumption)]) | (unfold rSlip; rw [if_pos (by omega), if_neg (by assumption)]) | grind [upI])
theorem vX3_slip_7 (s : MS) (a1 : Int) (a2 : Int) (a3 : Int) (hp : tOK (s.2 6) ∧ aOK (s.2 6) (s.2 7) ∧ sOK (s.2 6) (s.2 8)) (o_1 : (tOK (s.2 6))) (c_3 : ¬ (bI (0 ≤ a1 ∧ a1 < (s.2 6) 2)) = 0) (c_5 : ¬ (bI (0 ≤ a2 ∧ a2 < (s.2 6) 3)) = 0) (c_7 : (bI ((0 : Int) ≤ a3 ∧ a3 ≤ (i32 ((s.2 6 4) - 1)))) = 0) : (-2) = (rSlip (s.2 6) (s.2 7) (s.2 8) a1 a2 a3) := by
  obtain ⟨ht, ha, hs⟩ := hp
  have hW := tOK_W ht
  have hS := tOK_S ht
  have hN := tOK_N ht
  (try simp only [bI_0, bI_n, Classical.not_not] at *)
  (try unfold lex3)
  (try simp only [bI_0, bI_n, Classical.not_not] at *)
  (try simp (disch := omega) only [i32_id] at *)
  first | done | omega | ((repeat' (with_reducible apply And.intro)) <;> first | assumption | rfl | omega | (unfold rSlip; rw [if_neg (by omega)]) | (unfold rSlip; rw [if_pos (by omega), if_pos (by assumption)]) | (unfold rSlip; rw [if_pos (by omega), if_neg (by assumption)]) | grind [upI])
theorem ctX3_slip (b : AH) (s : MS) (a1 : Int) (a2 : Int) (a3 : Int) (hp : tOK (s.2 6) ∧ aOK (s.2 6) (s.2 7) ∧ sOK (s.2 6) (s.2 8)) : MC mX3_slip 8 b s [vI a1, vI a2, vI a3] (QX3_slip s a1 a2 a3) := by
  refine MC.of (by decide) rfl (Nat.le_of_ble_eq_true rfl) (JW.steq (s2 := sS (sS (sS (sS (sA (sA (sA (sA (sA (sA (sA (sA (sA s 11 (s.2 11)) 12 (s.2 12)) 13 (s.2 13)) 14 (s.2 14)) 15 (s.2 15)) 16 (s.2 16)) 17 (s.2 17)) 18 (s.2 18)) 19 (s.2 19)) 0 (s.1 0)) 25 (s.1 25)) 33 (s.1 33)) 34 (s.1 34)) (by simp only [sA_id, sS_id]) ?_)
  refine bX3_slip_0 b s a1 a2 a3 (s.2 11) (s.2 12) (s.2 13) (s.2 14) (s.2 15) (s.2 16) (s.2 17) (s.2 18) (s.2 19) (s.1 0) (s.1 25) (s.1 33) (s.1 34) ?_
  have o_1 : (tOK (s.2 6)) := (vX3_slip_1 s a1 a2 a3 hp)
  refine ⟨o_1, ?_⟩
  refine ⟨fun c_3 => ?_, fun c_3 => ?_⟩
  · exact ⟨(s.2 11), (s.2 12), (s.2 13), (s.2 14), (s.2 15), (s.2 16), (s.2 17), (s.2 18), (s.2 19), (s.1 25), (s.1 33), (s.1 34), (rI_c (vX3_slip_2 s a1 a2 a3 hp o_1 c_3)), rfl⟩
  · refine ⟨fun c_5 => ?_, fun c_5 => ?_⟩
    · exact ⟨(s.2 11), (s.2 12), (s.2 13), (s.2 14), (s.2 15), (s.2 16), (s.2 17), (s.2 18), (s.2 19), (s.1 25), (s.1 33), (s.1 34), (rI_c (vX3_slip_3 s a1 a2 a3 hp o_1 c_3 c_5)), rfl⟩
    · refine ⟨fun c_7 => ?_, fun c_7 => ?_⟩
      · have o_8 : (tOK (s.2 6) ∧ aOK (s.2 6) (s.2 7) ∧ sOK (s.2 6) (s.2 8) ∧ (0 ≤ a1 ∧ a1 < (s.2 6) 2) ∧ (0 ≤ a2 ∧ a2 < (s.2 6) 3) ∧ (0 ≤ a3 ∧ a3 < (s.2 6) 4)) := (vX3_slip_4 s a1 a2 a3 hp o_1 c_3 c_5 c_7)
        refine ⟨o_8, ?_⟩
        intro f_9 f_10 k_11
        refine ⟨fun c_13 => ?_, fun c_13 => ?_⟩
        · exact ⟨f_9, f_10, (s.2 13), (s.2 14), (s.2 15), (s.2 16), (s.2 17), (s.2 18), (s.2 19), k_11, (s.1 33), (s.1 34), (rI_c (vX3_slip_5 s a1 a2 a3 hp o_1 c_3 c_5 c_7 o_8 f_9 f_10 k_11 c_13)), rfl⟩
        · exact ⟨f_9, f_10, (s.2 13), (s.2 14), (s.2 15), (s.2 16), (s.2 17), (s.2 18), (s.2 19), k_11, (s.1 33), (s.1 34), (rI_c (vX3_slip_6 s a1 a2 a3 hp o_1 c_3 c_5 c_7 o_8 f_9 f_10 k_11 c_13)), rfl⟩
      · exact ⟨(s.2 11), (s.2 12), (s.2 13), (s.2 14), (s.2 15), (s.2 16), (s.2 17), (s.2 18), (s.2 19), (s.1 25), (s.1 33), (s.1 34), (rI_c (vX3_slip_7 s a1 a2 a3 hp o_1 c_3 c_5 c_7)), rfl⟩
def HX3_fits_0 (Q : Option AV → MS → Prop) (b : AH) (s : MS) (x1 : Int) (x2 : Int) (f11 : Int → Int) (f12 : Int → Int) (f13 : Int → Int) (f14 : Int → Int) (f15 : Int → Int) (f16 : Int → Int) (f17 : Int → Int) (f18 : Int → Int) (f19 : Int → Int) (k0 : Int) (k25 : Int) (k33 : Int) (k34 : Int) : Prop := MW mX3_fits 8 Q b 0 [(0, vR 351), (1, vI x1), (2, vI x2)] [] (sS (sS (sS (sS (sA (sA (sA (sA (sA (sA (sA (sA (sA s 11 f11) 12 f12) 13 f13) 14 f14) 15 f15) 16 f16) 17 f17) 18 f18) 19 f19) 0 k0) 25 k25) 33 k33) 34 k34)
def HX3_fits_31 (Q : Option AV → MS → Prop) (b : AH) (s : MS) (x1 : Int) (x2 : Int) (x3 : Int) (x4 : Int) (f11 : Int → Int) (f12 : Int → Int) (f13 : Int → Int) (f14 : Int → Int) (f15 : Int → Int) (f16 : Int → Int) (f17 : Int → Int) (f18 : Int → Int) (f19 : Int → Int) (k0 : Int) (k25 : Int) (k33 : Int) (k34 : Int) : Prop := MW mX3_fits 8 Q b 31 [(0, vR 351), (1, vI x1), (2, vI x2), (3, vI x3), (4, vI x4)] [] (sS (sS (sS (sS (sA (sA (sA (sA (sA (sA (sA (sA (sA s 11 f11) 12 f12) 13 f13) 14 f14) 15 f15) 16 f16) 17 f17) 18 f18) 19 f19) 0 k0) 25 k25) 33 k33) 34 k34)
def HX3_fits_45 (Q : Option AV → MS → Prop) (b : AH) (s : MS) (x1 : Int) (x2 : Int) (x3 : Int) (x4 : Int) (x5 : Int) (f11 : Int → Int) (f12 : Int → Int) (f13 : Int → Int) (f14 : Int → Int) (f15 : Int → Int) (f16 : Int → Int) (f17 : Int → Int) (f18 : Int → Int) (f19 : Int → Int) (k0 : Int) (k25 : Int) (k33 : Int) (k34 : Int) : Prop := MW mX3_fits 8 Q b 45 [(0, vR 351), (1, vI x1), (2, vI x2), (3, vI x3), (4, vI x4), (5, vI x5)] [] (sS (sS (sS (sS (sA (sA (sA (sA (sA (sA (sA (sA (sA s 11 f11) 12 f12) 13 f13) 14 f14) 15 f15) 16 f16) 17 f17) 18 f18) 19 f19) 0 k0) 25 k25) 33 k33) 34 k34)
theorem bX3_fits_0 {Q : Option AV → MS → Prop} (b : AH) (s : MS) (x1 : Int) (x2 : Int) (f11 : Int → Int) (f12 : Int → Int) (f13 : Int → Int) (f14 : Int → Int) (f15 : Int → Int) (f16 : Int → Int) (f17 : Int → Int) (f18 : Int → Int) (f19 : Int → Int) (k0 : Int) (k25 : Int) (k33 : Int) (k34 : Int) (K : (tOK (s.2 6)) ∧ (((bI (0 ≤ x1 ∧ x1 < (s.2 6) 2)) = 0 → Q (some (vI (-2))) (sS (sS (sS (sS (sA (sA (sA (sA (sA (sA (sA (sA (sA s 11 f11) 12 f12) 13 f13) 14 f14) 15 f15) 16 f16) 17 f17) 18 f18) 19 f19) 0 0) 25 k25) 33 k33) 34 k34)) ∧ (¬ (bI (0 ≤ x1 ∧ x1 < (s.2 6) 2)) = 0 → (¬ (bI (0 ≤ x2 ∧ x2 < (s.2 6) 2)) = 0 → HX3_fits_31 Q b s x1 x2 0 0 f11 f12 f13 f14 f15 f16 f17 f18 f19 0 k25 k33 k34) ∧ ((bI (0 ≤ x2 ∧ x2 < (s.2 6) 2)) = 0 → Q (some (vI (-2))) (sS (sS (sS (sS (sA (sA (sA (sA (sA (sA (sA (sA (sA s 11 f11) 12 f12) 13 f13) 14 f14) 15 f15) 16 f16) 17 f17) 18 f18) 19 f19) 0 0) 25 k25) 33 k33) 34 k34))))) : HX3_fits_0 Q b s x1 x2 f11 f12 f13 f14 f15 f16 f17 f18 f19 k0 k25 k33 k34 := by
  refine JW.aload_n dX3_fits_0 rfl ?_
  refine JW.iconst dX3_fits_1 rfl ?_
  refine JW.mputI dX3_fits_2 (pX3_77 _) rfl ?_
  refine JW.steq (s2 := sS (sS (sS (sS (sA (sA (sA (sA (sA (sA (sA (sA (sA s 11 f11) 12 f12) 13 f13) 14 f14) 15 f15) 16 f16) 17 f17) 18 f18) 19 f19) 0 0) 25 k25) 33 k33) 34 k34) (by simp only [sA_A, sS_S, sA_S, sA_lt, sS_lt, Nat.reduceLT, id_eq] <;> rfl) ?_
  refine JW.aload_n dX3_fits_5 rfl ?_
  refine JW.iload_n dX3_fits_6 rfl ?_
  refine JW.i2l dX3_fits_7 ?_
  obtain ⟨o_1, K⟩ := K
  refine JW.mcall (As := [vL x1]) dX3_fits_8 vX3_isNumber rfl q1806 (ctX3_isNumber b (sS (sS (sS (sS (sA (sA (sA (sA (sA (sA (sA (sA (sA s 11 f11) 12 f12) 13 f13) 14 f14) 15 f15) 16 f16) 17 f17) 18 f18) 19 f19) 0 0) 25 k25) 33 k33) 34 k34) x1 o_1) (Nat.le_of_ble_eq_true rfl) rfl (Nat.le_of_ble_eq_true rfl) ?_
  rintro _ _ ⟨rfl, eq_2⟩
  refine JW.steq (s2 := sS (sS (sS (sS (sA (sA (sA (sA (sA (sA (sA (sA (sA s 11 f11) 12 f12) 13 f13) 14 f14) 15 f15) 16 f16) 17 f17) 18 f18) 19 f19) 0 0) 25 k25) 33 k33) 34 k34) eq_2 ?_
  refine JW.if_eq (tgt := 23) dX3_fits_11 rfl (fun c_3 => ?_) (fun c_3 => ?_)
  · have K := K.1 c_3
    refine JW.bipush dX3_fits_23 rfl ?_
    exact JW.ireturn dX3_fits_25 rfl rfl ⟨_, rfl, K⟩
  · have K := K.2 c_3
    refine JW.aload_n dX3_fits_14 rfl ?_
    refine JW.iload_n dX3_fits_15 rfl ?_
    refine JW.i2l dX3_fits_16 ?_
    refine JW.mcall (As := [vL x2]) dX3_fits_17 vX3_isNumber rfl q1806 (ctX3_isNumber b (sS (sS (sS (sS (sA (sA (sA (sA (sA (sA (sA (sA (sA s 11 f11) 12 f12) 13 f13) 14 f14) 15 f15) 16 f16) 17 f17) 18 f18) 19 f19) 0 0) 25 k25) 33 k33) 34 k34) x2 o_1) (Nat.le_of_ble_eq_true rfl) rfl (Nat.le_of_ble_eq_true rfl) ?_
    rintro _ _ ⟨rfl, eq_4⟩
    refine JW.steq (s2 := sS (sS (sS (sS (sA (sA (sA (sA (sA (sA (sA (sA (sA s 11 f11) 12 f12) 13 f13) 14 f14) 15 f15) 16 f16) 17 f17) 18 f18) 19 f19) 0 0) 25 k25) 33 k33) 34 k34) eq_4 ?_
    refine JW.if_ne (tgt := 26) dX3_fits_20 rfl (fun c_5 => ?_) (fun c_5 => ?_)
    · have K := K.1 c_5
      refine JW.iconst dX3_fits_26 rfl ?_
      refine JW.istore_n (ls' := [(0, vR 351), (1, vI x1), (2, vI x2), (3, vI 0)]) dX3_fits_27 (Nat.le_of_ble_eq_true rfl) rfl ?_
      refine JW.iconst dX3_fits_28 rfl ?_
      refine JW.istore (ls' := [(0, vR 351), (1, vI x1), (2, vI x2), (3, vI 0), (4, vI 0)]) dX3_fits_29 (Nat.le_of_ble_eq_true rfl) rfl ?_
      exact JW.pick [0, 1, 2, 3, 4] rfl K
    · have K := K.2 c_5
      refine JW.bipush dX3_fits_23 rfl ?_
      exact JW.ireturn dX3_fits_25 rfl rfl ⟨_, rfl, K⟩
theorem bX3_fits_31 {Q : Option AV → MS → Prop} (b : AH) (s : MS) (x1 : Int) (x2 : Int) (x3 : Int) (x4 : Int) (f11 : Int → Int) (f12 : Int → Int) (f13 : Int → Int) (f14 : Int → Int) (f15 : Int → Int) (f16 : Int → Int) (f17 : Int → Int) (f18 : Int → Int) (f19 : Int → Int) (k0 : Int) (k25 : Int) (k33 : Int) (k34 : Int) (K : ((s.2 6 3) ≤ x4 → Q (some (vI x3)) (sS (sS (sS (sS (sA (sA (sA (sA (sA (sA (sA (sA (sA s 11 f11) 12 f12) 13 f13) 14 f14) 15 f15) 16 f16) 17 f17) 18 f18) 19 f19) 0 k0) 25 k25) 33 k33) 34 k34)) ∧ (¬ (s.2 6 3) ≤ x4 → HX3_fits_45 Q b s x1 x2 x3 x4 0 f11 f12 f13 f14 f15 f16 f17 f18 f19 k0 k25 k33 k34)) : HX3_fits_31 Q b s x1 x2 x3 x4 f11 f12 f13 f14 f15 f16 f17 f18 f19 k0 k25 k33 k34 := by
  refine JW.iload dX3_fits_31 rfl ?_
  refine JW.aload_n dX3_fits_33 rfl ?_
  refine JW.mget (v := vR 358) dX3_fits_34 fX3_34 rfl ?_
  refine JW.iconst dX3_fits_37 rfl ?_
  refine JW.mald 6 (x := (s.2 6 3)) dX3_fits_38 (Nat.le_of_ble_eq_true rfl) rfl (by decide) (by decide) rfl ?_
  refine JW.icmp_ge (tgt := 89) dX3_fits_39 rfl (fun c_1 => ?_) (fun c_1 => ?_)
  · have K := K.1 c_1
    refine JW.iload_n dX3_fits_89 rfl ?_
    exact JW.ireturn dX3_fits_90 rfl rfl ⟨_, rfl, K⟩
  · have K := K.2 c_1
    refine JW.iconst dX3_fits_42 rfl ?_
    refine JW.istore (ls' := [(0, vR 351), (1, vI x1), (2, vI x2), (3, vI x3), (4, vI x4), (5, vI 0)]) dX3_fits_43 (Nat.le_of_ble_eq_true rfl) rfl ?_
    exact JW.pick [0, 1, 2, 3, 4, 5] rfl K
theorem bX3_fits_45 {Q : Option AV → MS → Prop} (b : AH) (s : MS) (x1 : Int) (x2 : Int) (x3 : Int) (x4 : Int) (x5 : Int) (f11 : Int → Int) (f12 : Int → Int) (f13 : Int → Int) (f14 : Int → Int) (f15 : Int → Int) (f16 : Int → Int) (f17 : Int → Int) (f18 : Int → Int) (f19 : Int → Int) (k0 : Int) (k25 : Int) (k33 : Int) (k34 : Int) (K : ((s.2 6 4) ≤ x5 → HX3_fits_31 Q b s x1 x2 x3 (i32 (x4 + 1)) f11 f12 f13 f14 f15 f16 f17 f18 f19 k0 k25 k33 k34) ∧ (¬ (s.2 6 4) ≤ x5 → (tOK (s.2 6) ∧ aOK (s.2 6) (s.2 7) ∧ sOK (s.2 6) (s.2 8) ∧ (0 ≤ x1 ∧ x1 < (s.2 6) 2) ∧ (0 ≤ x4 ∧ x4 < (s.2 6) 3) ∧ (0 ≤ x5 ∧ x5 < (s.2 6) 4)) ∧ ((∀ (f_3 : Int → Int) (f_4 : Int → Int) (k_5 : Int), (¬ (slpV (s.2 6) (s.2 7) (s.2 8) x1 x4 x5) = x2 → HX3_fits_45 Q b s x1 x2 (i32 (x3 + 0)) x4 (i32 (x5 + 1)) f_3 f_4 f13 f14 f15 f16 f17 f18 f19 k0 k_5 k33 k34) ∧ ((slpV (s.2 6) (s.2 7) (s.2 8) x1 x4 x5) = x2 → HX3_fits_45 Q b s x1 x2 (i32 (x3 + 1)) x4 (i32 (x5 + 1)) f_3 f_4 f13 f14 f15 f16 f17 f18 f19 k0 k_5 k33 k34))))) : HX3_fits_45 Q b s x1 x2 x3 x4 x5 f11 f12 f13 f14 f15 f16 f17 f18 f19 k0 k25 k33 k34 := by
  refine JW.iload dX3_fits_45 rfl ?_
  refine JW.aload_n dX3_fits_47 rfl ?_
  refine JW.mget (v := vR 358) dX3_fits_48 fX3_34 rfl ?_
  refine JW.iconst dX3_fits_51 rfl ?_
  refine JW.mald 6 (x := (s.2 6 4)) dX3_fits_52 (Nat.le_of_ble_eq_true rfl) rfl (by decide) (by decide) rfl ?_
  refine JW.icmp_ge (tgt := 83) dX3_fits_53 rfl (fun c_1 => ?_) (fun c_1 => ?_)
  · have K := K.1 c_1
    refine JW.iinc (ls' := [(0, vR 351), (1, vI x1), (2, vI x2), (3, vI x3), (4, vI (i32 (x4 + 1))), (5, vI x5)]) dX3_fits_83 (Nat.le_of_ble_eq_true rfl) rfl rfl ?_
    refine JW.goto (tgt := 31) dX3_fits_86 rfl ?_
    exact JW.pick [0, 1, 2, 3, 4] rfl K
  · have K := K.2 c_1
    refine JW.iload_n dX3_fits_56 rfl ?_
    refine JW.aload_n dX3_fits_57 rfl ?_
    refine JW.iload_n dX3_fits_58 rfl ?_
    refine JW.iload dX3_fits_59 rfl ?_
    refine JW.iload dX3_fits_61 rfl ?_
    obtain ⟨o_2, K⟩ := K
    refine JW.mcall (As := [vI x1, vI x4, vI x5]) dX3_fits_63 vX3_slipped rfl q2041 (ctX3_slipped b (sS (sS (sS (sS (sA (sA (sA (sA (sA (sA (sA (sA (sA s 11 f11) 12 f12) 13 f13) 14 f14) 15 f15) 16 f16) 17 f17) 18 f18) 19 f19) 0 k0) 25 k25) 33 k33) 34 k34) x1 x4 x5 o_2) (Nat.le_of_ble_eq_true rfl) rfl (Nat.le_of_ble_eq_true rfl) ?_
    rintro _ _ ⟨f_3, f_4, k_5, rfl, rfl⟩
    refine JW.steq (s2 := sS (sS (sS (sS (sA (sA (sA (sA (sA (sA (sA (sA (sA s 11 f_3) 12 f_4) 13 f13) 14 f14) 15 f15) 16 f16) 17 f17) 18 f18) 19 f19) 0 k0) 25 k_5) 33 k33) 34 k34) (by simp only [sA_A, sS_S, sA_S, sA_lt, sS_lt, Nat.reduceLT, id_eq] <;> rfl) ?_
    replace K := K f_3 f_4 k_5
    refine JW.iload_n dX3_fits_66 rfl ?_
    refine JW.icmp_ne (tgt := 74) dX3_fits_67 rfl (fun c_7 => ?_) (fun c_7 => ?_)
    · have K := K.1 c_7
      refine JW.iconst dX3_fits_74 rfl ?_
      refine JW.iadd dX3_fits_75 ?_
      refine JW.istore_n (ls' := [(0, vR 351), (1, vI x1), (2, vI x2), (3, vI (i32 (x3 + 0))), (4, vI x4), (5, vI x5)]) dX3_fits_76 (Nat.le_of_ble_eq_true rfl) rfl ?_
      refine JW.iinc (ls' := [(0, vR 351), (1, vI x1), (2, vI x2), (3, vI (i32 (x3 + 0))), (4, vI x4), (5, vI (i32 (x5 + 1)))]) dX3_fits_77 (Nat.le_of_ble_eq_true rfl) rfl rfl ?_
      refine JW.goto (tgt := 45) dX3_fits_80 rfl ?_
      exact JW.pick [0, 1, 2, 3, 4, 5] rfl K
    · have K := K.2 c_7
      refine JW.iconst dX3_fits_70 rfl ?_
      refine JW.goto (tgt := 75) dX3_fits_71 rfl ?_
      refine JW.iadd dX3_fits_75 ?_
      refine JW.istore_n (ls' := [(0, vR 351), (1, vI x1), (2, vI x2), (3, vI (i32 (x3 + 1))), (4, vI x4), (5, vI x5)]) dX3_fits_76 (Nat.le_of_ble_eq_true rfl) rfl ?_
      refine JW.iinc (ls' := [(0, vR 351), (1, vI x1), (2, vI x2), (3, vI (i32 (x3 + 1))), (4, vI x4), (5, vI (i32 (x5 + 1)))]) dX3_fits_77 (Nat.le_of_ble_eq_true rfl) rfl rfl ?_
      refine JW.goto (tgt := 45) dX3_fits_80 rfl ?_
      exact JW.pick [0, 1, 2, 3, 4, 5] rfl K
def QX3_fits (s : MS) (a1 : Int) (a2 : Int) : Option AV → MS → Prop := fun v s' => ∃ (f11 : Int → Int) (f12 : Int → Int) (f13 : Int → Int) (f14 : Int → Int) (f15 : Int → Int) (f16 : Int → Int) (f17 : Int → Int) (f18 : Int → Int) (f19 : Int → Int) (k25 : Int) (k33 : Int) (k34 : Int), v = some (vI (rFits (s.2 6) (s.2 7) (s.2 8) a1 a2)) ∧ s' = sS (sS (sS (sS (sA (sA (sA (sA (sA (sA (sA (sA (sA s 11 f11) 12 f12) 13 f13) 14 f14) 15 f15) 16 f16) 17 f17) 18 f18) 19 f19) 0 (0)) 25 k25) 33 k33) 34 k34
theorem vX3_fits_1 (s : MS) (a1 : Int) (a2 : Int) (hp : tOK (s.2 6) ∧ aOK (s.2 6) (s.2 7) ∧ sOK (s.2 6) (s.2 8)) (x1 : Int) (x2 : Int) (x3 : Int) (x4 : Int) (f11 : Int → Int) (f12 : Int → Int) (f13 : Int → Int) (f14 : Int → Int) (f15 : Int → Int) (f16 : Int → Int) (f17 : Int → Int) (f18 : Int → Int) (f19 : Int → Int) (k0 : Int) (k25 : Int) (k33 : Int) (k34 : Int) (hI : k0 = 0 ∧ (x1 = a1 ∧ x2 = a2 ∧ 0 ≤ a1 ∧ a1 < s.2 6 2 ∧ 0 ≤ a2 ∧ a2 < s.2 6 2) ∧ (0 ≤ x4 ∧ x4 ≤ s.2 6 3) ∧ x3 = sumI (fun i => many (fun s_1 => slpV (s.2 6) (s.2 7) (s.2 8) a1 i s_1 = a2) (s.2 6 4).toNat) x4.toNat) (c_1 : (s.2 6 3) ≤ x4) : k0 = (0) := by
  obtain ⟨ht, ha, hs⟩ := hp
  have hW := tOK_W ht
  have hS := tOK_S ht
  have hN := tOK_N ht
  (try simp only [bI_0, bI_n, Classical.not_not] at *)
  (try have hb := sum_b (f := (fun i => many (fun s_1 => slpV (s.2 6) (s.2 7) (s.2 8) a1 i s_1 = a2) (s.2 6 4).toNat)) (m := 6) x4.toNat (fun i _ _ => by have := many_b (fun s_1 => slpV (s.2 6) (s.2 7) (s.2 8) a1 i s_1 = a2) (s.2 6 4).toNat; constructor <;> omega))
  (try have hb2 := many_b (fun s_1 => slpV (s.2 6) (s.2 7) (s.2 8) a1 x4 s_1 = a2) x5.toNat)
  (try have hss := sumI_s (fun i => many (fun s_1 => slpV (s.2 6) (s.2 7) (s.2 8) a1 i s_1 = a2) (s.2 6 4).toNat) hI.2.2.1.1)
  (try unfold lex3)
  (try simp only [bI_0, bI_n, Classical.not_not] at *)
  (try simp (disch := omega) only [i32_id] at *)
  first | done | omega | ((repeat' (with_reducible apply And.intro)) <;> first | assumption | rfl | omega | (exact hI.1) | (unfold rFits; rw [if_neg (by omega)]) | (unfold rFits; rw [if_pos (by omega), hI.2.2.2, show x4 = s.2 6 3 by omega]) | (rw [hI.2.2.2.2, show x5 = s.2 6 4 by omega, hss]) | (rw [hI.2.2.2]; show _ = _ + (0 : Int); omega) | (have h9 := many_t (p := fun s_1 => slpV (s.2 6) (s.2 7) (s.2 8) a1 x4 s_1 = a2) (k := x5) (by omega) (by first | (rw [hI.2.1.1, hI.2.1.2.1] at *; assumption)); omega) | (have h9 := many_f (p := fun s_1 => slpV (s.2 6) (s.2 7) (s.2 8) a1 x4 s_1 = a2) (k := x5) (by omega) (by first | (rw [hI.2.1.1, hI.2.1.2.1] at *; assumption)); omega) | (have h9 : many (fun s_1 => slpV (s.2 6) (s.2 7) (s.2 8) a1 x4 s_1 = a2) (0 : Int).toNat = 0 := rfl; omega) | grind [upI])
theorem vX3_fits_2 (s : MS) (a1 : Int) (a2 : Int) (hp : tOK (s.2 6) ∧ aOK (s.2 6) (s.2 7) ∧ sOK (s.2 6) (s.2 8)) (x1 : Int) (x2 : Int) (x3 : Int) (x4 : Int) (f11 : Int → Int) (f12 : Int → Int) (f13 : Int → Int) (f14 : Int → Int) (f15 : Int → Int) (f16 : Int → Int) (f17 : Int → Int) (f18 : Int → Int) (f19 : Int → Int) (k0 : Int) (k25 : Int) (k33 : Int) (k34 : Int) (hI : k0 = 0 ∧ (x1 = a1 ∧ x2 = a2 ∧ 0 ≤ a1 ∧ a1 < s.2 6 2 ∧ 0 ≤ a2 ∧ a2 < s.2 6 2) ∧ (0 ≤ x4 ∧ x4 ≤ s.2 6 3) ∧ x3 = sumI (fun i => many (fun s_1 => slpV (s.2 6) (s.2 7) (s.2 8) a1 i s_1 = a2) (s.2 6 4).toNat) x4.toNat) (c_1 : (s.2 6 3) ≤ x4) : x3 = (rFits (s.2 6) (s.2 7) (s.2 8) a1 a2) := by
  obtain ⟨ht, ha, hs⟩ := hp
  have hW := tOK_W ht
  have hS := tOK_S ht
  have hN := tOK_N ht
  (try simp only [bI_0, bI_n, Classical.not_not] at *)
  (try have hb := sum_b (f := (fun i => many (fun s_1 => slpV (s.2 6) (s.2 7) (s.2 8) a1 i s_1 = a2) (s.2 6 4).toNat)) (m := 6) x4.toNat (fun i _ _ => by have := many_b (fun s_1 => slpV (s.2 6) (s.2 7) (s.2 8) a1 i s_1 = a2) (s.2 6 4).toNat; constructor <;> omega))
  (try have hb2 := many_b (fun s_1 => slpV (s.2 6) (s.2 7) (s.2 8) a1 x4 s_1 = a2) x5.toNat)
  (try have hss := sumI_s (fun i => many (fun s_1 => slpV (s.2 6) (s.2 7) (s.2 8) a1 i s_1 = a2) (s.2 6 4).toNat) hI.2.2.1.1)
  (try unfold lex3)
  (try simp only [bI_0, bI_n, Classical.not_not] at *)
  (try simp (disch := omega) only [i32_id] at *)
  first | done | omega | ((repeat' (with_reducible apply And.intro)) <;> first | assumption | rfl | omega | (exact hI.1) | (unfold rFits; rw [if_neg (by omega)]) | (unfold rFits; rw [if_pos (by omega), hI.2.2.2, show x4 = s.2 6 3 by omega]) | (rw [hI.2.2.2.2, show x5 = s.2 6 4 by omega, hss]) | (rw [hI.2.2.2]; show _ = _ + (0 : Int); omega) | (have h9 := many_t (p := fun s_1 => slpV (s.2 6) (s.2 7) (s.2 8) a1 x4 s_1 = a2) (k := x5) (by omega) (by first | (rw [hI.2.1.1, hI.2.1.2.1] at *; assumption)); omega) | (have h9 := many_f (p := fun s_1 => slpV (s.2 6) (s.2 7) (s.2 8) a1 x4 s_1 = a2) (k := x5) (by omega) (by first | (rw [hI.2.1.1, hI.2.1.2.1] at *; assumption)); omega) | (have h9 : many (fun s_1 => slpV (s.2 6) (s.2 7) (s.2 8) a1 x4 s_1 = a2) (0 : Int).toNat = 0 := rfl; omega) | grind [upI])
theorem vX3_fits_3 (s : MS) (a1 : Int) (a2 : Int) (hp : tOK (s.2 6) ∧ aOK (s.2 6) (s.2 7) ∧ sOK (s.2 6) (s.2 8)) (x1 : Int) (x2 : Int) (x3 : Int) (x4 : Int) (f11 : Int → Int) (f12 : Int → Int) (f13 : Int → Int) (f14 : Int → Int) (f15 : Int → Int) (f16 : Int → Int) (f17 : Int → Int) (f18 : Int → Int) (f19 : Int → Int) (k0 : Int) (k25 : Int) (k33 : Int) (k34 : Int) (hI : k0 = 0 ∧ (x1 = a1 ∧ x2 = a2 ∧ 0 ≤ a1 ∧ a1 < s.2 6 2 ∧ 0 ≤ a2 ∧ a2 < s.2 6 2) ∧ (0 ≤ x4 ∧ x4 ≤ s.2 6 3) ∧ x3 = sumI (fun i => many (fun s_1 => slpV (s.2 6) (s.2 7) (s.2 8) a1 i s_1 = a2) (s.2 6 4).toNat) x4.toNat) (c_1 : ¬ (s.2 6 3) ≤ x4) : k0 = 0 ∧ (x1 = a1 ∧ x2 = a2 ∧ 0 ≤ a1 ∧ a1 < s.2 6 2 ∧ 0 ≤ a2 ∧ a2 < s.2 6 2) ∧ (0 ≤ x4 ∧ x4 < s.2 6 3) ∧ (0 ≤ (0 : Int) ∧ (0 : Int) ≤ s.2 6 4) ∧ x3 = sumI (fun i => many (fun s_1 => slpV (s.2 6) (s.2 7) (s.2 8) a1 i s_1 = a2) (s.2 6 4).toNat) x4.toNat + many (fun s_1 => slpV (s.2 6) (s.2 7) (s.2 8) a1 x4 s_1 = a2) (0 : Int).toNat := by
  obtain ⟨ht, ha, hs⟩ := hp
  have hW := tOK_W ht
  have hS := tOK_S ht
  have hN := tOK_N ht
  (try simp only [bI_0, bI_n, Classical.not_not] at *)
  (try have hb := sum_b (f := (fun i => many (fun s_1 => slpV (s.2 6) (s.2 7) (s.2 8) a1 i s_1 = a2) (s.2 6 4).toNat)) (m := 6) x4.toNat (fun i _ _ => by have := many_b (fun s_1 => slpV (s.2 6) (s.2 7) (s.2 8) a1 i s_1 = a2) (s.2 6 4).toNat; constructor <;> omega))
  (try have hb2 := many_b (fun s_1 => slpV (s.2 6) (s.2 7) (s.2 8) a1 x4 s_1 = a2) x5.toNat)
  (try have hss := sumI_s (fun i => many (fun s_1 => slpV (s.2 6) (s.2 7) (s.2 8) a1 i s_1 = a2) (s.2 6 4).toNat) hI.2.2.1.1)
  (try unfold lex3)
  (try simp only [bI_0, bI_n, Classical.not_not] at *)
  (try simp (disch := omega) only [i32_id] at *)
  first | done | omega | ((repeat' (with_reducible apply And.intro)) <;> first | assumption | rfl | omega | (exact hI.1) | (unfold rFits; rw [if_neg (by omega)]) | (unfold rFits; rw [if_pos (by omega), hI.2.2.2, show x4 = s.2 6 3 by omega]) | (rw [hI.2.2.2.2, show x5 = s.2 6 4 by omega, hss]) | (rw [hI.2.2.2]; show _ = _ + (0 : Int); omega) | (have h9 := many_t (p := fun s_1 => slpV (s.2 6) (s.2 7) (s.2 8) a1 x4 s_1 = a2) (k := x5) (by omega) (by first | (rw [hI.2.1.1, hI.2.1.2.1] at *; assumption)); omega) | (have h9 := many_f (p := fun s_1 => slpV (s.2 6) (s.2 7) (s.2 8) a1 x4 s_1 = a2) (k := x5) (by omega) (by first | (rw [hI.2.1.1, hI.2.1.2.1] at *; assumption)); omega) | (have h9 : many (fun s_1 => slpV (s.2 6) (s.2 7) (s.2 8) a1 x4 s_1 = a2) (0 : Int).toNat = 0 := rfl; omega) | grind [upI])
theorem vX3_fits_4 (s : MS) (a1 : Int) (a2 : Int) (hp : tOK (s.2 6) ∧ aOK (s.2 6) (s.2 7) ∧ sOK (s.2 6) (s.2 8)) (x1 : Int) (x2 : Int) (x3 : Int) (x4 : Int) (f11 : Int → Int) (f12 : Int → Int) (f13 : Int → Int) (f14 : Int → Int) (f15 : Int → Int) (f16 : Int → Int) (f17 : Int → Int) (f18 : Int → Int) (f19 : Int → Int) (k0 : Int) (k25 : Int) (k33 : Int) (k34 : Int) (hI : k0 = 0 ∧ (x1 = a1 ∧ x2 = a2 ∧ 0 ≤ a1 ∧ a1 < s.2 6 2 ∧ 0 ≤ a2 ∧ a2 < s.2 6 2) ∧ (0 ≤ x4 ∧ x4 ≤ s.2 6 3) ∧ x3 = sumI (fun i => many (fun s_1 => slpV (s.2 6) (s.2 7) (s.2 8) a1 i s_1 = a2) (s.2 6 4).toNat) x4.toNat) (c_1 : ¬ (s.2 6 3) ≤ x4) : lex3 0 ((s.2 6 3 - x4).toNat - 1) ((s.2 6 4 - (0 : Int)).toNat + 1) 0 ((s.2 6 3 - x4).toNat) 0 := by
  obtain ⟨ht, ha, hs⟩ := hp
  have hW := tOK_W ht
  have hS := tOK_S ht
  have hN := tOK_N ht
  (try simp only [bI_0, bI_n, Classical.not_not] at *)
  (try have hb := sum_b (f := (fun i => many (fun s_1 => slpV (s.2 6) (s.2 7) (s.2 8) a1 i s_1 = a2) (s.2 6 4).toNat)) (m := 6) x4.toNat (fun i _ _ => by have := many_b (fun s_1 => slpV (s.2 6) (s.2 7) (s.2 8) a1 i s_1 = a2) (s.2 6 4).toNat; constructor <;> omega))
  (try have hb2 := many_b (fun s_1 => slpV (s.2 6) (s.2 7) (s.2 8) a1 x4 s_1 = a2) x5.toNat)
  (try have hss := sumI_s (fun i => many (fun s_1 => slpV (s.2 6) (s.2 7) (s.2 8) a1 i s_1 = a2) (s.2 6 4).toNat) hI.2.2.1.1)
  (try unfold lex3)
  (try simp only [bI_0, bI_n, Classical.not_not] at *)
  (try simp (disch := omega) only [i32_id] at *)
  first | done | omega | ((repeat' (with_reducible apply And.intro)) <;> first | assumption | rfl | omega | (exact hI.1) | (unfold rFits; rw [if_neg (by omega)]) | (unfold rFits; rw [if_pos (by omega), hI.2.2.2, show x4 = s.2 6 3 by omega]) | (rw [hI.2.2.2.2, show x5 = s.2 6 4 by omega, hss]) | (rw [hI.2.2.2]; show _ = _ + (0 : Int); omega) | (have h9 := many_t (p := fun s_1 => slpV (s.2 6) (s.2 7) (s.2 8) a1 x4 s_1 = a2) (k := x5) (by omega) (by first | (rw [hI.2.1.1, hI.2.1.2.1] at *; assumption)); omega) | (have h9 := many_f (p := fun s_1 => slpV (s.2 6) (s.2 7) (s.2 8) a1 x4 s_1 = a2) (k := x5) (by omega) (by first | (rw [hI.2.1.1, hI.2.1.2.1] at *; assumption)); omega) | (have h9 : many (fun s_1 => slpV (s.2 6) (s.2 7) (s.2 8) a1 x4 s_1 = a2) (0 : Int).toNat = 0 := rfl; omega) | grind [upI])
theorem vX3_fits_5 (s : MS) (a1 : Int) (a2 : Int) (hp : tOK (s.2 6) ∧ aOK (s.2 6) (s.2 7) ∧ sOK (s.2 6) (s.2 8)) (x1 : Int) (x2 : Int) (x3 : Int) (x4 : Int) (x5 : Int) (f11 : Int → Int) (f12 : Int → Int) (f13 : Int → Int) (f14 : Int → Int) (f15 : Int → Int) (f16 : Int → Int) (f17 : Int → Int) (f18 : Int → Int) (f19 : Int → Int) (k0 : Int) (k25 : Int) (k33 : Int) (k34 : Int) (hI : k0 = 0 ∧ (x1 = a1 ∧ x2 = a2 ∧ 0 ≤ a1 ∧ a1 < s.2 6 2 ∧ 0 ≤ a2 ∧ a2 < s.2 6 2) ∧ (0 ≤ x4 ∧ x4 < s.2 6 3) ∧ (0 ≤ x5 ∧ x5 ≤ s.2 6 4) ∧ x3 = sumI (fun i => many (fun s_1 => slpV (s.2 6) (s.2 7) (s.2 8) a1 i s_1 = a2) (s.2 6 4).toNat) x4.toNat + many (fun s_1 => slpV (s.2 6) (s.2 7) (s.2 8) a1 x4 s_1 = a2) x5.toNat) (c_1 : (s.2 6 4) ≤ x5) : k0 = 0 ∧ (x1 = a1 ∧ x2 = a2 ∧ 0 ≤ a1 ∧ a1 < s.2 6 2 ∧ 0 ≤ a2 ∧ a2 < s.2 6 2) ∧ (0 ≤ (i32 (x4 + 1)) ∧ (i32 (x4 + 1)) ≤ s.2 6 3) ∧ x3 = sumI (fun i => many (fun s_1 => slpV (s.2 6) (s.2 7) (s.2 8) a1 i s_1 = a2) (s.2 6 4).toNat) (i32 (x4 + 1)).toNat := by
  obtain ⟨ht, ha, hs⟩ := hp
  have hW := tOK_W ht
  have hS := tOK_S ht
  have hN := tOK_N ht
  (try simp only [bI_0, bI_n, Classical.not_not] at *)
  (try have hb := sum_b (f := (fun i => many (fun s_1 => slpV (s.2 6) (s.2 7) (s.2 8) a1 i s_1 = a2) (s.2 6 4).toNat)) (m := 6) x4.toNat (fun i _ _ => by have := many_b (fun s_1 => slpV (s.2 6) (s.2 7) (s.2 8) a1 i s_1 = a2) (s.2 6 4).toNat; constructor <;> omega))
  (try have hb2 := many_b (fun s_1 => slpV (s.2 6) (s.2 7) (s.2 8) a1 x4 s_1 = a2) x5.toNat)
  (try have hss := sumI_s (fun i => many (fun s_1 => slpV (s.2 6) (s.2 7) (s.2 8) a1 i s_1 = a2) (s.2 6 4).toNat) hI.2.2.1.1)
  (try unfold lex3)
  (try simp only [bI_0, bI_n, Classical.not_not] at *)
  (try simp (disch := omega) only [i32_id] at *)
  first | done | omega | ((repeat' (with_reducible apply And.intro)) <;> first | assumption | rfl | omega | (exact hI.1) | (unfold rFits; rw [if_neg (by omega)]) | (unfold rFits; rw [if_pos (by omega), hI.2.2.2, show x4 = s.2 6 3 by omega]) | (rw [hI.2.2.2.2, show x5 = s.2 6 4 by omega, hss]) | (rw [hI.2.2.2]; show _ = _ + (0 : Int); omega) | (have h9 := many_t (p := fun s_1 => slpV (s.2 6) (s.2 7) (s.2 8) a1 x4 s_1 = a2) (k := x5) (by omega) (by first | (rw [hI.2.1.1, hI.2.1.2.1] at *; assumption)); omega) | (have h9 := many_f (p := fun s_1 => slpV (s.2 6) (s.2 7) (s.2 8) a1 x4 s_1 = a2) (k := x5) (by omega) (by first | (rw [hI.2.1.1, hI.2.1.2.1] at *; assumption)); omega) | (have h9 : many (fun s_1 => slpV (s.2 6) (s.2 7) (s.2 8) a1 x4 s_1 = a2) (0 : Int).toNat = 0 := rfl; omega) | grind [upI])
theorem vX3_fits_6 (s : MS) (a1 : Int) (a2 : Int) (hp : tOK (s.2 6) ∧ aOK (s.2 6) (s.2 7) ∧ sOK (s.2 6) (s.2 8)) (x1 : Int) (x2 : Int) (x3 : Int) (x4 : Int) (x5 : Int) (f11 : Int → Int) (f12 : Int → Int) (f13 : Int → Int) (f14 : Int → Int) (f15 : Int → Int) (f16 : Int → Int) (f17 : Int → Int) (f18 : Int → Int) (f19 : Int → Int) (k0 : Int) (k25 : Int) (k33 : Int) (k34 : Int) (hI : k0 = 0 ∧ (x1 = a1 ∧ x2 = a2 ∧ 0 ≤ a1 ∧ a1 < s.2 6 2 ∧ 0 ≤ a2 ∧ a2 < s.2 6 2) ∧ (0 ≤ x4 ∧ x4 < s.2 6 3) ∧ (0 ≤ x5 ∧ x5 ≤ s.2 6 4) ∧ x3 = sumI (fun i => many (fun s_1 => slpV (s.2 6) (s.2 7) (s.2 8) a1 i s_1 = a2) (s.2 6 4).toNat) x4.toNat + many (fun s_1 => slpV (s.2 6) (s.2 7) (s.2 8) a1 x4 s_1 = a2) x5.toNat) (c_1 : (s.2 6 4) ≤ x5) : lex3 0 ((s.2 6 3 - (i32 (x4 + 1))).toNat) 0 0 ((s.2 6 3 - x4).toNat - 1) ((s.2 6 4 - x5).toNat + 1) := by
  obtain ⟨ht, ha, hs⟩ := hp
  have hW := tOK_W ht
  have hS := tOK_S ht
  have hN := tOK_N ht
  (try simp only [bI_0, bI_n, Classical.not_not] at *)
  (try have hb := sum_b (f := (fun i => many (fun s_1 => slpV (s.2 6) (s.2 7) (s.2 8) a1 i s_1 = a2) (s.2 6 4).toNat)) (m := 6) x4.toNat (fun i _ _ => by have := many_b (fun s_1 => slpV (s.2 6) (s.2 7) (s.2 8) a1 i s_1 = a2) (s.2 6 4).toNat; constructor <;> omega))
  (try have hb2 := many_b (fun s_1 => slpV (s.2 6) (s.2 7) (s.2 8) a1 x4 s_1 = a2) x5.toNat)
  (try have hss := sumI_s (fun i => many (fun s_1 => slpV (s.2 6) (s.2 7) (s.2 8) a1 i s_1 = a2) (s.2 6 4).toNat) hI.2.2.1.1)
  (try unfold lex3)
  (try simp only [bI_0, bI_n, Classical.not_not] at *)
  (try simp (disch := omega) only [i32_id] at *)
  first | done | omega | ((repeat' (with_reducible apply And.intro)) <;> first | assumption | rfl | omega | (exact hI.1) | (unfold rFits; rw [if_neg (by omega)]) | (unfold rFits; rw [if_pos (by omega), hI.2.2.2, show x4 = s.2 6 3 by omega]) | (rw [hI.2.2.2.2, show x5 = s.2 6 4 by omega, hss]) | (rw [hI.2.2.2]; show _ = _ + (0 : Int); omega) | (have h9 := many_t (p := fun s_1 => slpV (s.2 6) (s.2 7) (s.2 8) a1 x4 s_1 = a2) (k := x5) (by omega) (by first | (rw [hI.2.1.1, hI.2.1.2.1] at *; assumption)); omega) | (have h9 := many_f (p := fun s_1 => slpV (s.2 6) (s.2 7) (s.2 8) a1 x4 s_1 = a2) (k := x5) (by omega) (by first | (rw [hI.2.1.1, hI.2.1.2.1] at *; assumption)); omega) | (have h9 : many (fun s_1 => slpV (s.2 6) (s.2 7) (s.2 8) a1 x4 s_1 = a2) (0 : Int).toNat = 0 := rfl; omega) | grind [upI])
theorem vX3_fits_7 (s : MS) (a1 : Int) (a2 : Int) (hp : tOK (s.2 6) ∧ aOK (s.2 6) (s.2 7) ∧ sOK (s.2 6) (s.2 8)) (x1 : Int) (x2 : Int) (x3 : Int) (x4 : Int) (x5 : Int) (f11 : Int → Int) (f12 : Int → Int) (f13 : Int → Int) (f14 : Int → Int) (f15 : Int → Int) (f16 : Int → Int) (f17 : Int → Int) (f18 : Int → Int) (f19 : Int → Int) (k0 : Int) (k25 : Int) (k33 : Int) (k34 : Int) (hI : k0 = 0 ∧ (x1 = a1 ∧ x2 = a2 ∧ 0 ≤ a1 ∧ a1 < s.2 6 2 ∧ 0 ≤ a2 ∧ a2 < s.2 6 2) ∧ (0 ≤ x4 ∧ x4 < s.2 6 3) ∧ (0 ≤ x5 ∧ x5 ≤ s.2 6 4) ∧ x3 = sumI (fun i => many (fun s_1 => slpV (s.2 6) (s.2 7) (s.2 8) a1 i s_1 = a2) (s.2 6 4).toNat) x4.toNat + many (fun s_1 => slpV (s.2 6) (s.2 7) (s.2 8) a1 x4 s_1 = a2) x5.toNat) (c_1 : ¬ (s.2 6 4) ≤ x5) : (tOK (s.2 6) ∧ aOK (s.2 6) (s.2 7) ∧ sOK (s.2 6) (s.2 8) ∧ (0 ≤ x1 ∧ x1 < (s.2 6) 2) ∧ (0 ≤ x4 ∧ x4 < (s.2 6) 3) ∧ (0 ≤ x5 ∧ x5 < (s.2 6) 4)) := by
  obtain ⟨ht, ha, hs⟩ := hp
  have hW := tOK_W ht
  have hS := tOK_S ht
  have hN := tOK_N ht
  (try simp only [bI_0, bI_n, Classical.not_not] at *)
  (try have hb := sum_b (f := (fun i => many (fun s_1 => slpV (s.2 6) (s.2 7) (s.2 8) a1 i s_1 = a2) (s.2 6 4).toNat)) (m := 6) x4.toNat (fun i _ _ => by have := many_b (fun s_1 => slpV (s.2 6) (s.2 7) (s.2 8) a1 i s_1 = a2) (s.2 6 4).toNat; constructor <;> omega))
  (try have hb2 := many_b (fun s_1 => slpV (s.2 6) (s.2 7) (s.2 8) a1 x4 s_1 = a2) x5.toNat)
  (try have hss := sumI_s (fun i => many (fun s_1 => slpV (s.2 6) (s.2 7) (s.2 8) a1 i s_1 = a2) (s.2 6 4).toNat) hI.2.2.1.1)
  (try unfold lex3)
  (try simp only [bI_0, bI_n, Classical.not_not] at *)
  (try simp (disch := omega) only [i32_id] at *)
  first | done | omega | ((repeat' (with_reducible apply And.intro)) <;> first | assumption | rfl | omega | (exact hI.1) | (unfold rFits; rw [if_neg (by omega)]) | (unfold rFits; rw [if_pos (by omega), hI.2.2.2, show x4 = s.2 6 3 by omega]) | (rw [hI.2.2.2.2, show x5 = s.2 6 4 by omega, hss]) | (rw [hI.2.2.2]; show _ = _ + (0 : Int); omega) | (have h9 := many_t (p := fun s_1 => slpV (s.2 6) (s.2 7) (s.2 8) a1 x4 s_1 = a2) (k := x5) (by omega) (by first | (rw [hI.2.1.1, hI.2.1.2.1] at *; assumption)); omega) | (have h9 := many_f (p := fun s_1 => slpV (s.2 6) (s.2 7) (s.2 8) a1 x4 s_1 = a2) (k := x5) (by omega) (by first | (rw [hI.2.1.1, hI.2.1.2.1] at *; assumption)); omega) | (have h9 : many (fun s_1 => slpV (s.2 6) (s.2 7) (s.2 8) a1 x4 s_1 = a2) (0 : Int).toNat = 0 := rfl; omega) | grind [upI])
theorem vX3_fits_8 (s : MS) (a1 : Int) (a2 : Int) (hp : tOK (s.2 6) ∧ aOK (s.2 6) (s.2 7) ∧ sOK (s.2 6) (s.2 8)) (x1 : Int) (x2 : Int) (x3 : Int) (x4 : Int) (x5 : Int) (f11 : Int → Int) (f12 : Int → Int) (f13 : Int → Int) (f14 : Int → Int) (f15 : Int → Int) (f16 : Int → Int) (f17 : Int → Int) (f18 : Int → Int) (f19 : Int → Int) (k0 : Int) (k25 : Int) (k33 : Int) (k34 : Int) (hI : k0 = 0 ∧ (x1 = a1 ∧ x2 = a2 ∧ 0 ≤ a1 ∧ a1 < s.2 6 2 ∧ 0 ≤ a2 ∧ a2 < s.2 6 2) ∧ (0 ≤ x4 ∧ x4 < s.2 6 3) ∧ (0 ≤ x5 ∧ x5 ≤ s.2 6 4) ∧ x3 = sumI (fun i => many (fun s_1 => slpV (s.2 6) (s.2 7) (s.2 8) a1 i s_1 = a2) (s.2 6 4).toNat) x4.toNat + many (fun s_1 => slpV (s.2 6) (s.2 7) (s.2 8) a1 x4 s_1 = a2) x5.toNat) (c_1 : ¬ (s.2 6 4) ≤ x5) (o_2 : (tOK (s.2 6) ∧ aOK (s.2 6) (s.2 7) ∧ sOK (s.2 6) (s.2 8) ∧ (0 ≤ x1 ∧ x1 < (s.2 6) 2) ∧ (0 ≤ x4 ∧ x4 < (s.2 6) 3) ∧ (0 ≤ x5 ∧ x5 < (s.2 6) 4))) (f_3 : Int → Int) (f_4 : Int → Int) (k_5 : Int) (c_7 : ¬ (slpV (s.2 6) (s.2 7) (s.2 8) x1 x4 x5) = x2) : k0 = 0 ∧ (x1 = a1 ∧ x2 = a2 ∧ 0 ≤ a1 ∧ a1 < s.2 6 2 ∧ 0 ≤ a2 ∧ a2 < s.2 6 2) ∧ (0 ≤ x4 ∧ x4 < s.2 6 3) ∧ (0 ≤ (i32 (x5 + 1)) ∧ (i32 (x5 + 1)) ≤ s.2 6 4) ∧ (i32 (x3 + 0)) = sumI (fun i => many (fun s_1 => slpV (s.2 6) (s.2 7) (s.2 8) a1 i s_1 = a2) (s.2 6 4).toNat) x4.toNat + many (fun s_1 => slpV (s.2 6) (s.2 7) (s.2 8) a1 x4 s_1 = a2) (i32 (x5 + 1)).toNat := by
  obtain ⟨ht, ha, hs⟩ := hp
  have hW := tOK_W ht
  have hS := tOK_S ht
  have hN := tOK_N ht
  (try simp only [bI_0, bI_n, Classical.not_not] at *)
  (try have hb := sum_b (f := (fun i => many (fun s_1 => slpV (s.2 6) (s.2 7) (s.2 8) a1 i s_1 = a2) (s.2 6 4).toNat)) (m := 6) x4.toNat (fun i _ _ => by have := many_b (fun s_1 => slpV (s.2 6) (s.2 7) (s.2 8) a1 i s_1 = a2) (s.2 6 4).toNat; constructor <;> omega))
  (try have hb2 := many_b (fun s_1 => slpV (s.2 6) (s.2 7) (s.2 8) a1 x4 s_1 = a2) x5.toNat)
  (try have hss := sumI_s (fun i => many (fun s_1 => slpV (s.2 6) (s.2 7) (s.2 8) a1 i s_1 = a2) (s.2 6 4).toNat) hI.2.2.1.1)
  (try unfold lex3)
  (try simp only [bI_0, bI_n, Classical.not_not] at *)
  (try simp (disch := omega) only [i32_id] at *)
  first | done | omega | ((repeat' (with_reducible apply And.intro)) <;> first | assumption | rfl | omega | (exact hI.1) | (unfold rFits; rw [if_neg (by omega)]) | (unfold rFits; rw [if_pos (by omega), hI.2.2.2, show x4 = s.2 6 3 by omega]) | (rw [hI.2.2.2.2, show x5 = s.2 6 4 by omega, hss]) | (rw [hI.2.2.2]; show _ = _ + (0 : Int); omega) | (have h9 := many_t (p := fun s_1 => slpV (s.2 6) (s.2 7) (s.2 8) a1 x4 s_1 = a2) (k := x5) (by omega) (by first | (rw [hI.2.1.1, hI.2.1.2.1] at *; assumption)); omega) | (have h9 := many_f (p := fun s_1 => slpV (s.2 6) (s.2 7) (s.2 8) a1 x4 s_1 = a2) (k := x5) (by omega) (by first | (rw [hI.2.1.1, hI.2.1.2.1] at *; assumption)); omega) | (have h9 : many (fun s_1 => slpV (s.2 6) (s.2 7) (s.2 8) a1 x4 s_1 = a2) (0 : Int).toNat = 0 := rfl; omega) | grind [upI])
theorem vX3_fits_9 (s : MS) (a1 : Int) (a2 : Int) (hp : tOK (s.2 6) ∧ aOK (s.2 6) (s.2 7) ∧ sOK (s.2 6) (s.2 8)) (x1 : Int) (x2 : Int) (x3 : Int) (x4 : Int) (x5 : Int) (f11 : Int → Int) (f12 : Int → Int) (f13 : Int → Int) (f14 : Int → Int) (f15 : Int → Int) (f16 : Int → Int) (f17 : Int → Int) (f18 : Int → Int) (f19 : Int → Int) (k0 : Int) (k25 : Int) (k33 : Int) (k34 : Int) (hI : k0 = 0 ∧ (x1 = a1 ∧ x2 = a2 ∧ 0 ≤ a1 ∧ a1 < s.2 6 2 ∧ 0 ≤ a2 ∧ a2 < s.2 6 2) ∧ (0 ≤ x4 ∧ x4 < s.2 6 3) ∧ (0 ≤ x5 ∧ x5 ≤ s.2 6 4) ∧ x3 = sumI (fun i => many (fun s_1 => slpV (s.2 6) (s.2 7) (s.2 8) a1 i s_1 = a2) (s.2 6 4).toNat) x4.toNat + many (fun s_1 => slpV (s.2 6) (s.2 7) (s.2 8) a1 x4 s_1 = a2) x5.toNat) (c_1 : ¬ (s.2 6 4) ≤ x5) (o_2 : (tOK (s.2 6) ∧ aOK (s.2 6) (s.2 7) ∧ sOK (s.2 6) (s.2 8) ∧ (0 ≤ x1 ∧ x1 < (s.2 6) 2) ∧ (0 ≤ x4 ∧ x4 < (s.2 6) 3) ∧ (0 ≤ x5 ∧ x5 < (s.2 6) 4))) (f_3 : Int → Int) (f_4 : Int → Int) (k_5 : Int) (c_7 : ¬ (slpV (s.2 6) (s.2 7) (s.2 8) x1 x4 x5) = x2) : lex3 0 ((s.2 6 3 - x4).toNat - 1) ((s.2 6 4 - (i32 (x5 + 1))).toNat + 1) 0 ((s.2 6 3 - x4).toNat - 1) ((s.2 6 4 - x5).toNat + 1) := by
  obtain ⟨ht, ha, hs⟩ := hp
  have hW := tOK_W ht
  have hS := tOK_S ht
  have hN := tOK_N ht
  (try simp only [bI_0, bI_n, Classical.not_not] at *)
  (try have hb := sum_b (f := (fun i => many (fun s_1 => slpV (s.2 6) (s.2 7) (s.2 8) a1 i s_1 = a2) (s.2 6 4).toNat)) (m := 6) x4.toNat (fun i _ _ => by have := many_b (fun s_1 => slpV (s.2 6) (s.2 7) (s.2 8) a1 i s_1 = a2) (s.2 6 4).toNat; constructor <;> omega))
  (try have hb2 := many_b (fun s_1 => slpV (s.2 6) (s.2 7) (s.2 8) a1 x4 s_1 = a2) x5.toNat)
  (try have hss := sumI_s (fun i => many (fun s_1 => slpV (s.2 6) (s.2 7) (s.2 8) a1 i s_1 = a2) (s.2 6 4).toNat) hI.2.2.1.1)
  (try unfold lex3)
  (try simp only [bI_0, bI_n, Classical.not_not] at *)
  (try simp (disch := omega) only [i32_id] at *)
  first | done | omega | ((repeat' (with_reducible apply And.intro)) <;> first | assumption | rfl | omega | (exact hI.1) | (unfold rFits; rw [if_neg (by omega)]) | (unfold rFits; rw [if_pos (by omega), hI.2.2.2, show x4 = s.2 6 3 by omega]) | (rw [hI.2.2.2.2, show x5 = s.2 6 4 by omega, hss]) | (rw [hI.2.2.2]; show _ = _ + (0 : Int); omega) | (have h9 := many_t (p := fun s_1 => slpV (s.2 6) (s.2 7) (s.2 8) a1 x4 s_1 = a2) (k := x5) (by omega) (by first | (rw [hI.2.1.1, hI.2.1.2.1] at *; assumption)); omega) | (have h9 := many_f (p := fun s_1 => slpV (s.2 6) (s.2 7) (s.2 8) a1 x4 s_1 = a2) (k := x5) (by omega) (by first | (rw [hI.2.1.1, hI.2.1.2.1] at *; assumption)); omega) | (have h9 : many (fun s_1 => slpV (s.2 6) (s.2 7) (s.2 8) a1 x4 s_1 = a2) (0 : Int).toNat = 0 := rfl; omega) | grind [upI])
theorem vX3_fits_10 (s : MS) (a1 : Int) (a2 : Int) (hp : tOK (s.2 6) ∧ aOK (s.2 6) (s.2 7) ∧ sOK (s.2 6) (s.2 8)) (x1 : Int) (x2 : Int) (x3 : Int) (x4 : Int) (x5 : Int) (f11 : Int → Int) (f12 : Int → Int) (f13 : Int → Int) (f14 : Int → Int) (f15 : Int → Int) (f16 : Int → Int) (f17 : Int → Int) (f18 : Int → Int) (f19 : Int → Int) (k0 : Int) (k25 : Int) (k33 : Int) (k34 : Int) (hI : k0 = 0 ∧ (x1 = a1 ∧ x2 = a2 ∧ 0 ≤ a1 ∧ a1 < s.2 6 2 ∧ 0 ≤ a2 ∧ a2 < s.2 6 2) ∧ (0 ≤ x4 ∧ x4 < s.2 6 3) ∧ (0 ≤ x5 ∧ x5 ≤ s.2 6 4) ∧ x3 = sumI (fun i => many (fun s_1 => slpV (s.2 6) (s.2 7) (s.2 8) a1 i s_1 = a2) (s.2 6 4).toNat) x4.toNat + many (fun s_1 => slpV (s.2 6) (s.2 7) (s.2 8) a1 x4 s_1 = a2) x5.toNat) (c_1 : ¬ (s.2 6 4) ≤ x5) (o_2 : (tOK (s.2 6) ∧ aOK (s.2 6) (s.2 7) ∧ sOK (s.2 6) (s.2 8) ∧ (0 ≤ x1 ∧ x1 < (s.2 6) 2) ∧ (0 ≤ x4 ∧ x4 < (s.2 6) 3) ∧ (0 ≤ x5 ∧ x5 < (s.2 6) 4))) (f_3 : Int → Int) (f_4 : Int → Int) (k_5 : Int) (c_7 : (slpV (s.2 6) (s.2 7) (s.2 8) x1 x4 x5) = x2) : k0 = 0 ∧ (x1 = a1 ∧ x2 = a2 ∧ 0 ≤ a1 ∧ a1 < s.2 6 2 ∧ 0 ≤ a2 ∧ a2 < s.2 6 2) ∧ (0 ≤ x4 ∧ x4 < s.2 6 3) ∧ (0 ≤ (i32 (x5 + 1)) ∧ (i32 (x5 + 1)) ≤ s.2 6 4) ∧ (i32 (x3 + 1)) = sumI (fun i => many (fun s_1 => slpV (s.2 6) (s.2 7) (s.2 8) a1 i s_1 = a2) (s.2 6 4).toNat) x4.toNat + many (fun s_1 => slpV (s.2 6) (s.2 7) (s.2 8) a1 x4 s_1 = a2) (i32 (x5 + 1)).toNat := by
  obtain ⟨ht, ha, hs⟩ := hp
  have hW := tOK_W ht
  have hS := tOK_S ht
  have hN := tOK_N ht
  (try simp only [bI_0, bI_n, Classical.not_not] at *)
  (try have hb := sum_b (f := (fun i => many (fun s_1 => slpV (s.2 6) (s.2 7) (s.2 8) a1 i s_1 = a2) (s.2 6 4).toNat)) (m := 6) x4.toNat (fun i _ _ => by have := many_b (fun s_1 => slpV (s.2 6) (s.2 7) (s.2 8) a1 i s_1 = a2) (s.2 6 4).toNat; constructor <;> omega))
  (try have hb2 := many_b (fun s_1 => slpV (s.2 6) (s.2 7) (s.2 8) a1 x4 s_1 = a2) x5.toNat)
  (try have hss := sumI_s (fun i => many (fun s_1 => slpV (s.2 6) (s.2 7) (s.2 8) a1 i s_1 = a2) (s.2 6 4).toNat) hI.2.2.1.1)
  (try unfold lex3)
  (try simp only [bI_0, bI_n, Classical.not_not] at *)
  (try simp (disch := omega) only [i32_id] at *)
  first | done | omega | ((repeat' (with_reducible apply And.intro)) <;> first | assumption | rfl | omega | (exact hI.1) | (unfold rFits; rw [if_neg (by omega)]) | (unfold rFits; rw [if_pos (by omega), hI.2.2.2, show x4 = s.2 6 3 by omega]) | (rw [hI.2.2.2.2, show x5 = s.2 6 4 by omega, hss]) | (rw [hI.2.2.2]; show _ = _ + (0 : Int); omega) | (have h9 := many_t (p := fun s_1 => slpV (s.2 6) (s.2 7) (s.2 8) a1 x4 s_1 = a2) (k := x5) (by omega) (by first | (rw [hI.2.1.1, hI.2.1.2.1] at *; assumption)); omega) | (have h9 := many_f (p := fun s_1 => slpV (s.2 6) (s.2 7) (s.2 8) a1 x4 s_1 = a2) (k := x5) (by omega) (by first | (rw [hI.2.1.1, hI.2.1.2.1] at *; assumption)); omega) | (have h9 : many (fun s_1 => slpV (s.2 6) (s.2 7) (s.2 8) a1 x4 s_1 = a2) (0 : Int).toNat = 0 := rfl; omega) | grind [upI])
theorem vX3_fits_11 (s : MS) (a1 : Int) (a2 : Int) (hp : tOK (s.2 6) ∧ aOK (s.2 6) (s.2 7) ∧ sOK (s.2 6) (s.2 8)) (x1 : Int) (x2 : Int) (x3 : Int) (x4 : Int) (x5 : Int) (f11 : Int → Int) (f12 : Int → Int) (f13 : Int → Int) (f14 : Int → Int) (f15 : Int → Int) (f16 : Int → Int) (f17 : Int → Int) (f18 : Int → Int) (f19 : Int → Int) (k0 : Int) (k25 : Int) (k33 : Int) (k34 : Int) (hI : k0 = 0 ∧ (x1 = a1 ∧ x2 = a2 ∧ 0 ≤ a1 ∧ a1 < s.2 6 2 ∧ 0 ≤ a2 ∧ a2 < s.2 6 2) ∧ (0 ≤ x4 ∧ x4 < s.2 6 3) ∧ (0 ≤ x5 ∧ x5 ≤ s.2 6 4) ∧ x3 = sumI (fun i => many (fun s_1 => slpV (s.2 6) (s.2 7) (s.2 8) a1 i s_1 = a2) (s.2 6 4).toNat) x4.toNat + many (fun s_1 => slpV (s.2 6) (s.2 7) (s.2 8) a1 x4 s_1 = a2) x5.toNat) (c_1 : ¬ (s.2 6 4) ≤ x5) (o_2 : (tOK (s.2 6) ∧ aOK (s.2 6) (s.2 7) ∧ sOK (s.2 6) (s.2 8) ∧ (0 ≤ x1 ∧ x1 < (s.2 6) 2) ∧ (0 ≤ x4 ∧ x4 < (s.2 6) 3) ∧ (0 ≤ x5 ∧ x5 < (s.2 6) 4))) (f_3 : Int → Int) (f_4 : Int → Int) (k_5 : Int) (c_7 : (slpV (s.2 6) (s.2 7) (s.2 8) x1 x4 x5) = x2) : lex3 0 ((s.2 6 3 - x4).toNat - 1) ((s.2 6 4 - (i32 (x5 + 1))).toNat + 1) 0 ((s.2 6 3 - x4).toNat - 1) ((s.2 6 4 - x5).toNat + 1) := by
  obtain ⟨ht, ha, hs⟩ := hp
  have hW := tOK_W ht
  have hS := tOK_S ht
  have hN := tOK_N ht
  (try simp only [bI_0, bI_n, Classical.not_not] at *)
  (try have hb := sum_b (f := (fun i => many (fun s_1 => slpV (s.2 6) (s.2 7) (s.2 8) a1 i s_1 = a2) (s.2 6 4).toNat)) (m := 6) x4.toNat (fun i _ _ => by have := many_b (fun s_1 => slpV (s.2 6) (s.2 7) (s.2 8) a1 i s_1 = a2) (s.2 6 4).toNat; constructor <;> omega))
  (try have hb2 := many_b (fun s_1 => slpV (s.2 6) (s.2 7) (s.2 8) a1 x4 s_1 = a2) x5.toNat)
  (try have hss := sumI_s (fun i => many (fun s_1 => slpV (s.2 6) (s.2 7) (s.2 8) a1 i s_1 = a2) (s.2 6 4).toNat) hI.2.2.1.1)
  (try unfold lex3)
  (try simp only [bI_0, bI_n, Classical.not_not] at *)
  (try simp (disch := omega) only [i32_id] at *)
  first | done | omega | ((repeat' (with_reducible apply And.intro)) <;> first | assumption | rfl | omega | (exact hI.1) | (unfold rFits; rw [if_neg (by omega)]) | (unfold rFits; rw [if_pos (by omega), hI.2.2.2, show x4 = s.2 6 3 by omega]) | (rw [hI.2.2.2.2, show x5 = s.2 6 4 by omega, hss]) | (rw [hI.2.2.2]; show _ = _ + (0 : Int); omega) | (have h9 := many_t (p := fun s_1 => slpV (s.2 6) (s.2 7) (s.2 8) a1 x4 s_1 = a2) (k := x5) (by omega) (by first | (rw [hI.2.1.1, hI.2.1.2.1] at *; assumption)); omega) | (have h9 := many_f (p := fun s_1 => slpV (s.2 6) (s.2 7) (s.2 8) a1 x4 s_1 = a2) (k := x5) (by omega) (by first | (rw [hI.2.1.1, hI.2.1.2.1] at *; assumption)); omega) | (have h9 : many (fun s_1 => slpV (s.2 6) (s.2 7) (s.2 8) a1 x4 s_1 = a2) (0 : Int).toNat = 0 := rfl; omega) | grind [upI])
theorem vX3_fits_12 (s : MS) (a1 : Int) (a2 : Int) (hp : tOK (s.2 6) ∧ aOK (s.2 6) (s.2 7) ∧ sOK (s.2 6) (s.2 8)) : (tOK (s.2 6)) := by
  obtain ⟨ht, ha, hs⟩ := hp
  have hW := tOK_W ht
  have hS := tOK_S ht
  have hN := tOK_N ht
  (try simp only [bI_0, bI_n, Classical.not_not] at *)
  (try have hb := sum_b (f := (fun i => many (fun s_1 => slpV (s.2 6) (s.2 7) (s.2 8) a1 i s_1 = a2) (s.2 6 4).toNat)) (m := 6) x4.toNat (fun i _ _ => by have := many_b (fun s_1 => slpV (s.2 6) (s.2 7) (s.2 8) a1 i s_1 = a2) (s.2 6 4).toNat; constructor <;> omega))
  (try have hb2 := many_b (fun s_1 => slpV (s.2 6) (s.2 7) (s.2 8) a1 x4 s_1 = a2) x5.toNat)
  (try have hss := sumI_s (fun i => many (fun s_1 => slpV (s.2 6) (s.2 7) (s.2 8) a1 i s_1 = a2) (s.2 6 4).toNat) hI.2.2.1.1)
  (try unfold lex3)
  (try simp only [bI_0, bI_n, Classical.not_not] at *)
  (try simp (disch := omega) only [i32_id] at *)
  first | done | omega | ((repeat' (with_reducible apply And.intro)) <;> first | assumption | rfl | omega | (exact hI.1) | (unfold rFits; rw [if_neg (by omega)]) | (unfold rFits; rw [if_pos (by omega), hI.2.2.2, show x4 = s.2 6 3 by omega]) | (rw [hI.2.2.2.2, show x5 = s.2 6 4 by omega, hss]) | (rw [hI.2.2.2]; show _ = _ + (0 : Int); omega) | (have h9 := many_t (p := fun s_1 => slpV (s.2 6) (s.2 7) (s.2 8) a1 x4 s_1 = a2) (k := x5) (by omega) (by first | (rw [hI.2.1.1, hI.2.1.2.1] at *; assumption)); omega) | (have h9 := many_f (p := fun s_1 => slpV (s.2 6) (s.2 7) (s.2 8) a1 x4 s_1 = a2) (k := x5) (by omega) (by first | (rw [hI.2.1.1, hI.2.1.2.1] at *; assumption)); omega) | (have h9 : many (fun s_1 => slpV (s.2 6) (s.2 7) (s.2 8) a1 x4 s_1 = a2) (0 : Int).toNat = 0 := rfl; omega) | grind [upI])
theorem vX3_fits_13 (s : MS) (a1 : Int) (a2 : Int) (hp : tOK (s.2 6) ∧ aOK (s.2 6) (s.2 7) ∧ sOK (s.2 6) (s.2 8)) (o_1 : (tOK (s.2 6))) (c_3 : (bI (0 ≤ a1 ∧ a1 < (s.2 6) 2)) = 0) : (-2) = (rFits (s.2 6) (s.2 7) (s.2 8) a1 a2) := by
  obtain ⟨ht, ha, hs⟩ := hp
  have hW := tOK_W ht
  have hS := tOK_S ht
  have hN := tOK_N ht
  (try simp only [bI_0, bI_n, Classical.not_not] at *)
  (try have hb := sum_b (f := (fun i => many (fun s_1 => slpV (s.2 6) (s.2 7) (s.2 8) a1 i s_1 = a2) (s.2 6 4).toNat)) (m := 6) x4.toNat (fun i _ _ => by have := many_b (fun s_1 => slpV (s.2 6) (s.2 7) (s.2 8) a1 i s_1 = a2) (s.2 6 4).toNat; constructor <;> omega))
  (try have hb2 := many_b (fun s_1 => slpV (s.2 6) (s.2 7) (s.2 8) a1 x4 s_1 = a2) x5.toNat)
  (try have hss := sumI_s (fun i => many (fun s_1 => slpV (s.2 6) (s.2 7) (s.2 8) a1 i s_1 = a2) (s.2 6 4).toNat) hI.2.2.1.1)
  (try unfold lex3)
  (try simp only [bI_0, bI_n, Classical.not_not] at *)
  (try simp (disch := omega) only [i32_id] at *)
  first | done | omega | ((repeat' (with_reducible apply And.intro)) <;> first | assumption | rfl | omega | (exact hI.1) | (unfold rFits; rw [if_neg (by omega)]) | (unfold rFits; rw [if_pos (by omega), hI.2.2.2, show x4 = s.2 6 3 by omega]) | (rw [hI.2.2.2.2, show x5 = s.2 6 4 by omega, hss]) | (rw [hI.2.2.2]; show _ = _ + (0 : Int); omega) | (have h9 := many_t (p := fun s_1 => slpV (s.2 6) (s.2 7) (s.2 8) a1 x4 s_1 = a2) (k := x5) (by omega) (by first | (rw [hI.2.1.1, hI.2.1.2.1] at *; assumption)); omega) | (have h9 := many_f (p := fun s_1 => slpV (s.2 6) (s.2 7) (s.2 8) a1 x4 s_1 = a2) (k := x5) (by omega) (by first | (rw [hI.2.1.1, hI.2.1.2.1] at *; assumption)); omega) | (have h9 : many (fun s_1 => slpV (s.2 6) (s.2 7) (s.2 8) a1 x4 s_1 = a2) (0 : Int).toNat = 0 := rfl; omega) | grind [upI])
theorem vX3_fits_14 (s : MS) (a1 : Int) (a2 : Int) (hp : tOK (s.2 6) ∧ aOK (s.2 6) (s.2 7) ∧ sOK (s.2 6) (s.2 8)) (o_1 : (tOK (s.2 6))) (c_3 : ¬ (bI (0 ≤ a1 ∧ a1 < (s.2 6) 2)) = 0) (c_5 : ¬ (bI (0 ≤ a2 ∧ a2 < (s.2 6) 2)) = 0) : (0 : Int) = 0 ∧ (a1 = a1 ∧ a2 = a2 ∧ 0 ≤ a1 ∧ a1 < s.2 6 2 ∧ 0 ≤ a2 ∧ a2 < s.2 6 2) ∧ (0 ≤ (0 : Int) ∧ (0 : Int) ≤ s.2 6 3) ∧ (0 : Int) = sumI (fun i => many (fun s_1 => slpV (s.2 6) (s.2 7) (s.2 8) a1 i s_1 = a2) (s.2 6 4).toNat) (0 : Int).toNat := by
  obtain ⟨ht, ha, hs⟩ := hp
  have hW := tOK_W ht
  have hS := tOK_S ht
  have hN := tOK_N ht
  (try simp only [bI_0, bI_n, Classical.not_not] at *)
  (try have hb := sum_b (f := (fun i => many (fun s_1 => slpV (s.2 6) (s.2 7) (s.2 8) a1 i s_1 = a2) (s.2 6 4).toNat)) (m := 6) x4.toNat (fun i _ _ => by have := many_b (fun s_1 => slpV (s.2 6) (s.2 7) (s.2 8) a1 i s_1 = a2) (s.2 6 4).toNat; constructor <;> omega))
  (try have hb2 := many_b (fun s_1 => slpV (s.2 6) (s.2 7) (s.2 8) a1 x4 s_1 = a2) x5.toNat)
  (try have hss := sumI_s (fun i => many (fun s_1 => slpV (s.2 6) (s.2 7) (s.2 8) a1 i s_1 = a2) (s.2 6 4).toNat) hI.2.2.1.1)
  (try unfold lex3)
  (try simp only [bI_0, bI_n, Classical.not_not] at *)
  (try simp (disch := omega) only [i32_id] at *)
  first | done | omega | ((repeat' (with_reducible apply And.intro)) <;> first | assumption | rfl | omega | (exact hI.1) | (unfold rFits; rw [if_neg (by omega)]) | (unfold rFits; rw [if_pos (by omega), hI.2.2.2, show x4 = s.2 6 3 by omega]) | (rw [hI.2.2.2.2, show x5 = s.2 6 4 by omega, hss]) | (rw [hI.2.2.2]; show _ = _ + (0 : Int); omega) | (have h9 := many_t (p := fun s_1 => slpV (s.2 6) (s.2 7) (s.2 8) a1 x4 s_1 = a2) (k := x5) (by omega) (by first | (rw [hI.2.1.1, hI.2.1.2.1] at *; assumption)); omega) | (have h9 := many_f (p := fun s_1 => slpV (s.2 6) (s.2 7) (s.2 8) a1 x4 s_1 = a2) (k := x5) (by omega) (by first | (rw [hI.2.1.1, hI.2.1.2.1] at *; assumption)); omega) | (have h9 : many (fun s_1 => slpV (s.2 6) (s.2 7) (s.2 8) a1 x4 s_1 = a2) (0 : Int).toNat = 0 := rfl; omega) | grind [upI])
theorem vX3_fits_15 (s : MS) (a1 : Int) (a2 : Int) (hp : tOK (s.2 6) ∧ aOK (s.2 6) (s.2 7) ∧ sOK (s.2 6) (s.2 8)) (o_1 : (tOK (s.2 6))) (c_3 : ¬ (bI (0 ≤ a1 ∧ a1 < (s.2 6) 2)) = 0) (c_5 : (bI (0 ≤ a2 ∧ a2 < (s.2 6) 2)) = 0) : (-2) = (rFits (s.2 6) (s.2 7) (s.2 8) a1 a2) := by
  obtain ⟨ht, ha, hs⟩ := hp
  have hW := tOK_W ht
  have hS := tOK_S ht
  have hN := tOK_N ht
  (try simp only [bI_0, bI_n, Classical.not_not] at *)
  (try have hb := sum_b (f := (fun i => many (fun s_1 => slpV (s.2 6) (s.2 7) (s.2 8) a1 i s_1 = a2) (s.2 6 4).toNat)) (m := 6) x4.toNat (fun i _ _ => by have := many_b (fun s_1 => slpV (s.2 6) (s.2 7) (s.2 8) a1 i s_1 = a2) (s.2 6 4).toNat; constructor <;> omega))
  (try have hb2 := many_b (fun s_1 => slpV (s.2 6) (s.2 7) (s.2 8) a1 x4 s_1 = a2) x5.toNat)
  (try have hss := sumI_s (fun i => many (fun s_1 => slpV (s.2 6) (s.2 7) (s.2 8) a1 i s_1 = a2) (s.2 6 4).toNat) hI.2.2.1.1)
  (try unfold lex3)
  (try simp only [bI_0, bI_n, Classical.not_not] at *)
  (try simp (disch := omega) only [i32_id] at *)
  first | done | omega | ((repeat' (with_reducible apply And.intro)) <;> first | assumption | rfl | omega | (exact hI.1) | (unfold rFits; rw [if_neg (by omega)]) | (unfold rFits; rw [if_pos (by omega), hI.2.2.2, show x4 = s.2 6 3 by omega]) | (rw [hI.2.2.2.2, show x5 = s.2 6 4 by omega, hss]) | (rw [hI.2.2.2]; show _ = _ + (0 : Int); omega) | (have h9 := many_t (p := fun s_1 => slpV (s.2 6) (s.2 7) (s.2 8) a1 x4 s_1 = a2) (k := x5) (by omega) (by first | (rw [hI.2.1.1, hI.2.1.2.1] at *; assumption)); omega) | (have h9 := many_f (p := fun s_1 => slpV (s.2 6) (s.2 7) (s.2 8) a1 x4 s_1 = a2) (k := x5) (by omega) (by first | (rw [hI.2.1.1, hI.2.1.2.1] at *; assumption)); omega) | (have h9 : many (fun s_1 => slpV (s.2 6) (s.2 7) (s.2 8) a1 x4 s_1 = a2) (0 : Int).toNat = 0 := rfl; omega) | grind [upI])
theorem allX3_fits (b : AH) (s : MS) (a1 : Int) (a2 : Int) (hp : tOK (s.2 6) ∧ aOK (s.2 6) (s.2 7) ∧ sOK (s.2 6) (s.2 8)) : ∀ m1 m2 m3 : Nat, (∀ (x1 : Int) (x2 : Int) (x3 : Int) (x4 : Int) (f11 : Int → Int) (f12 : Int → Int) (f13 : Int → Int) (f14 : Int → Int) (f15 : Int → Int) (f16 : Int → Int) (f17 : Int → Int) (f18 : Int → Int) (f19 : Int → Int) (k0 : Int) (k25 : Int) (k33 : Int) (k34 : Int), m1 = 0 → m2 = ((s.2 6 3 - x4).toNat) → m3 = 0 → (k0 = 0 ∧ (x1 = a1 ∧ x2 = a2 ∧ 0 ≤ a1 ∧ a1 < s.2 6 2 ∧ 0 ≤ a2 ∧ a2 < s.2 6 2) ∧ (0 ≤ x4 ∧ x4 ≤ s.2 6 3) ∧ x3 = sumI (fun i => many (fun s_1 => slpV (s.2 6) (s.2 7) (s.2 8) a1 i s_1 = a2) (s.2 6 4).toNat) x4.toNat) → HX3_fits_31 (QX3_fits s a1 a2) b s x1 x2 x3 x4 f11 f12 f13 f14 f15 f16 f17 f18 f19 k0 k25 k33 k34) ∧ (∀ (x1 : Int) (x2 : Int) (x3 : Int) (x4 : Int) (x5 : Int) (f11 : Int → Int) (f12 : Int → Int) (f13 : Int → Int) (f14 : Int → Int) (f15 : Int → Int) (f16 : Int → Int) (f17 : Int → Int) (f18 : Int → Int) (f19 : Int → Int) (k0 : Int) (k25 : Int) (k33 : Int) (k34 : Int), m1 = 0 → m2 = ((s.2 6 3 - x4).toNat - 1) → m3 = ((s.2 6 4 - x5).toNat + 1) → (k0 = 0 ∧ (x1 = a1 ∧ x2 = a2 ∧ 0 ≤ a1 ∧ a1 < s.2 6 2 ∧ 0 ≤ a2 ∧ a2 < s.2 6 2) ∧ (0 ≤ x4 ∧ x4 < s.2 6 3) ∧ (0 ≤ x5 ∧ x5 ≤ s.2 6 4) ∧ x3 = sumI (fun i => many (fun s_1 => slpV (s.2 6) (s.2 7) (s.2 8) a1 i s_1 = a2) (s.2 6 4).toNat) x4.toNat + many (fun s_1 => slpV (s.2 6) (s.2 7) (s.2 8) a1 x4 s_1 = a2) x5.toNat) → HX3_fits_45 (QX3_fits s a1 a2) b s x1 x2 x3 x4 x5 f11 f12 f13 f14 f15 f16 f17 f18 f19 k0 k25 k33 k34) := by
  refine lex3_ind ?_
  intro m1 m2 m3 ih
  refine ⟨?_, ?_⟩
  · rintro x1 x2 x3 x4 f11 f12 f13 f14 f15 f16 f17 f18 f19 k0 k25 k33 k34 rfl rfl rfl hI
    refine bX3_fits_31 b s x1 x2 x3 x4 f11 f12 f13 f14 f15 f16 f17 f18 f19 k0 k25 k33 k34 ?_
    refine ⟨fun c_1 => ?_, fun c_1 => ?_⟩
    · exact ⟨f11, f12, f13, f14, f15, f16, f17, f18, f19, k25, k33, k34, (rI_c (vX3_fits_2 s a1 a2 hp x1 x2 x3 x4 f11 f12 f13 f14 f15 f16 f17 f18 f19 k0 k25 k33 k34 hI c_1)), (sS_c (sS_c (sS_c (sS_c (sA_c (sA_c (sA_c (sA_c (sA_c (sA_c (sA_c (sA_c (sA_c rfl rfl) rfl) rfl) rfl) rfl) rfl) rfl) rfl) rfl) (vX3_fits_1 s a1 a2 hp x1 x2 x3 x4 f11 f12 f13 f14 f15 f16 f17 f18 f19 k0 k25 k33 k34 hI c_1)) rfl) rfl) rfl)⟩
    · exact (ih _ _ _ (vX3_fits_4 s a1 a2 hp x1 x2 x3 x4 f11 f12 f13 f14 f15 f16 f17 f18 f19 k0 k25 k33 k34 hI c_1)).2 x1 x2 x3 x4 0 f11 f12 f13 f14 f15 f16 f17 f18 f19 k0 k25 k33 k34 rfl rfl rfl (vX3_fits_3 s a1 a2 hp x1 x2 x3 x4 f11 f12 f13 f14 f15 f16 f17 f18 f19 k0 k25 k33 k34 hI c_1)
  · rintro x1 x2 x3 x4 x5 f11 f12 f13 f14 f15 f16 f17 f18 f19 k0 k25 k33 k34 rfl rfl rfl hI
    refine bX3_fits_45 b s x1 x2 x3 x4 x5 f11 f12 f13 f14 f15 f16 f17 f18 f19 k0 k25 k33 k34 ?_
    refine ⟨fun c_1 => ?_, fun c_1 => ?_⟩
    · exact (ih _ _ _ (vX3_fits_6 s a1 a2 hp x1 x2 x3 x4 x5 f11 f12 f13 f14 f15 f16 f17 f18 f19 k0 k25 k33 k34 hI c_1)).1 x1 x2 x3 (i32 (x4 + 1)) f11 f12 f13 f14 f15 f16 f17 f18 f19 k0 k25 k33 k34 rfl rfl rfl (vX3_fits_5 s a1 a2 hp x1 x2 x3 x4 x5 f11 f12 f13 f14 f15 f16 f17 f18 f19 k0 k25 k33 k34 hI c_1)
    · have o_2 : (tOK (s.2 6) ∧ aOK (s.2 6) (s.2 7) ∧ sOK (s.2 6) (s.2 8) ∧ (0 ≤ x1 ∧ x1 < (s.2 6) 2) ∧ (0 ≤ x4 ∧ x4 < (s.2 6) 3) ∧ (0 ≤ x5 ∧ x5 < (s.2 6) 4)) := (vX3_fits_7 s a1 a2 hp x1 x2 x3 x4 x5 f11 f12 f13 f14 f15 f16 f17 f18 f19 k0 k25 k33 k34 hI c_1)
      refine ⟨o_2, ?_⟩
      intro f_3 f_4 k_5
      refine ⟨fun c_7 => ?_, fun c_7 => ?_⟩
      · exact (ih _ _ _ (vX3_fits_9 s a1 a2 hp x1 x2 x3 x4 x5 f11 f12 f13 f14 f15 f16 f17 f18 f19 k0 k25 k33 k34 hI c_1 o_2 f_3 f_4 k_5 c_7)).2 x1 x2 (i32 (x3 + 0)) x4 (i32 (x5 + 1)) f_3 f_4 f13 f14 f15 f16 f17 f18 f19 k0 k_5 k33 k34 rfl rfl rfl (vX3_fits_8 s a1 a2 hp x1 x2 x3 x4 x5 f11 f12 f13 f14 f15 f16 f17 f18 f19 k0 k25 k33 k34 hI c_1 o_2 f_3 f_4 k_5 c_7)
      · exact (ih _ _ _ (vX3_fits_11 s a1 a2 hp x1 x2 x3 x4 x5 f11 f12 f13 f14 f15 f16 f17 f18 f19 k0 k25 k33 k34 hI c_1 o_2 f_3 f_4 k_5 c_7)).2 x1 x2 (i32 (x3 + 1)) x4 (i32 (x5 + 1)) f_3 f_4 f13 f14 f15 f16 f17 f18 f19 k0 k_5 k33 k34 rfl rfl rfl (vX3_fits_10 s a1 a2 hp x1 x2 x3 x4 x5 f11 f12 f13 f14 f15 f16 f17 f18 f19 k0 k25 k33 k34 hI c_1 o_2 f_3 f_4 k_5 c_7)
theorem ctX3_fits (b : AH) (s : MS) (a1 : Int) (a2 : Int) (hp : tOK (s.2 6) ∧ aOK (s.2 6) (s.2 7) ∧ sOK (s.2 6) (s.2 8)) : MC mX3_fits 8 b s [vI a1, vI a2] (QX3_fits s a1 a2) := by
  refine MC.of (by decide) rfl (Nat.le_of_ble_eq_true rfl) (JW.steq (s2 := sS (sS (sS (sS (sA (sA (sA (sA (sA (sA (sA (sA (sA s 11 (s.2 11)) 12 (s.2 12)) 13 (s.2 13)) 14 (s.2 14)) 15 (s.2 15)) 16 (s.2 16)) 17 (s.2 17)) 18 (s.2 18)) 19 (s.2 19)) 0 (s.1 0)) 25 (s.1 25)) 33 (s.1 33)) 34 (s.1 34)) (by simp only [sA_id, sS_id]) ?_)
  refine bX3_fits_0 b s a1 a2 (s.2 11) (s.2 12) (s.2 13) (s.2 14) (s.2 15) (s.2 16) (s.2 17) (s.2 18) (s.2 19) (s.1 0) (s.1 25) (s.1 33) (s.1 34) ?_
  have o_1 : (tOK (s.2 6)) := (vX3_fits_12 s a1 a2 hp)
  refine ⟨o_1, ?_⟩
  refine ⟨fun c_3 => ?_, fun c_3 => ?_⟩
  · exact ⟨(s.2 11), (s.2 12), (s.2 13), (s.2 14), (s.2 15), (s.2 16), (s.2 17), (s.2 18), (s.2 19), (s.1 25), (s.1 33), (s.1 34), (rI_c (vX3_fits_13 s a1 a2 hp o_1 c_3)), rfl⟩
  · refine ⟨fun c_5 => ?_, fun c_5 => ?_⟩
    · exact (allX3_fits b s a1 a2 hp _ _ _).1 a1 a2 0 0 (s.2 11) (s.2 12) (s.2 13) (s.2 14) (s.2 15) (s.2 16) (s.2 17) (s.2 18) (s.2 19) 0 (s.1 25) (s.1 33) (s.1 34) rfl rfl rfl (vX3_fits_14 s a1 a2 hp o_1 c_3 c_5)
    · exact ⟨(s.2 11), (s.2 12), (s.2 13), (s.2 14), (s.2 15), (s.2 16), (s.2 17), (s.2 18), (s.2 19), (s.1 25), (s.1 33), (s.1 34), (rI_c (vX3_fits_15 s a1 a2 hp o_1 c_3 c_5)), rfl⟩
