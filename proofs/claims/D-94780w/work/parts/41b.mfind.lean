/-! contracts of the reference: which rowed finds find found -/
set_option maxRecDepth 100000
def HX3_which_0 (Q : Option AV → MS → Prop) (b : AH) (s : MS) (x1 : Int) (x2 : Int) (f11 : Int → Int) (f12 : Int → Int) (f13 : Int → Int) (f14 : Int → Int) (f15 : Int → Int) (f16 : Int → Int) (f17 : Int → Int) (f18 : Int → Int) (f19 : Int → Int) (k0 : Int) (k25 : Int) (k33 : Int) (k34 : Int) : Prop := MW mX3_which 8 Q b 0 [(0, vR 351), (1, vI x1), (2, vI x2)] [] (sS (sS (sS (sS (sA (sA (sA (sA (sA (sA (sA (sA (sA s 11 f11) 12 f12) 13 f13) 14 f14) 15 f15) 16 f16) 17 f17) 18 f18) 19 f19) 0 k0) 25 k25) 33 k33) 34 k34)
def HX3_which_28 (Q : Option AV → MS → Prop) (b : AH) (s : MS) (x1 : Int) (x2 : Int) (x3 : Int) (f11 : Int → Int) (f12 : Int → Int) (f13 : Int → Int) (f14 : Int → Int) (f15 : Int → Int) (f16 : Int → Int) (f17 : Int → Int) (f18 : Int → Int) (f19 : Int → Int) (k0 : Int) (k25 : Int) (k33 : Int) (k34 : Int) : Prop := MW mX3_which 8 Q b 28 [(0, vR 351), (1, vI x1), (2, vI x2), (3, vI x3)] [] (sS (sS (sS (sS (sA (sA (sA (sA (sA (sA (sA (sA (sA s 11 f11) 12 f12) 13 f13) 14 f14) 15 f15) 16 f16) 17 f17) 18 f18) 19 f19) 0 k0) 25 k25) 33 k33) 34 k34)
def HX3_which_41 (Q : Option AV → MS → Prop) (b : AH) (s : MS) (x1 : Int) (x2 : Int) (x3 : Int) (x4 : Int) (f11 : Int → Int) (f12 : Int → Int) (f13 : Int → Int) (f14 : Int → Int) (f15 : Int → Int) (f16 : Int → Int) (f17 : Int → Int) (f18 : Int → Int) (f19 : Int → Int) (k0 : Int) (k25 : Int) (k33 : Int) (k34 : Int) : Prop := MW mX3_which 8 Q b 41 [(0, vR 351), (1, vI x1), (2, vI x2), (3, vI x3), (4, vI x4)] [] (sS (sS (sS (sS (sA (sA (sA (sA (sA (sA (sA (sA (sA s 11 f11) 12 f12) 13 f13) 14 f14) 15 f15) 16 f16) 17 f17) 18 f18) 19 f19) 0 k0) 25 k25) 33 k33) 34 k34)
theorem bX3_which_0 {Q : Option AV → MS → Prop} (b : AH) (s : MS) (x1 : Int) (x2 : Int) (f11 : Int → Int) (f12 : Int → Int) (f13 : Int → Int) (f14 : Int → Int) (f15 : Int → Int) (f16 : Int → Int) (f17 : Int → Int) (f18 : Int → Int) (f19 : Int → Int) (k0 : Int) (k25 : Int) (k33 : Int) (k34 : Int) (K : (tOK (s.2 6)) ∧ (((bI (0 ≤ x1 ∧ x1 < (s.2 6) 2)) = 0 → Q (some (vI (-2))) (sS (sS (sS (sS (sA (sA (sA (sA (sA (sA (sA (sA (sA s 11 f11) 12 f12) 13 f13) 14 f14) 15 f15) 16 f16) 17 f17) 18 f18) 19 f19) 0 0) 25 k25) 33 k33) 34 k34)) ∧ (¬ (bI (0 ≤ x1 ∧ x1 < (s.2 6) 2)) = 0 → (¬ (bI (0 ≤ x2 ∧ x2 < (s.2 6) 2)) = 0 → HX3_which_28 Q b s x1 x2 0 f11 f12 f13 f14 f15 f16 f17 f18 f19 0 k25 k33 k34) ∧ ((bI (0 ≤ x2 ∧ x2 < (s.2 6) 2)) = 0 → Q (some (vI (-2))) (sS (sS (sS (sS (sA (sA (sA (sA (sA (sA (sA (sA (sA s 11 f11) 12 f12) 13 f13) 14 f14) 15 f15) 16 f16) 17 f17) 18 f18) 19 f19) 0 0) 25 k25) 33 k33) 34 k34))))) : HX3_which_0 Q b s x1 x2 f11 f12 f13 f14 f15 f16 f17 f18 f19 k0 k25 k33 k34 := by
  refine JW.aload_n dX3_which_0 rfl ?_
  refine JW.iconst dX3_which_1 rfl ?_
  refine JW.mputI dX3_which_2 (pX3_77 _) rfl ?_
  refine JW.steq (s2 := sS (sS (sS (sS (sA (sA (sA (sA (sA (sA (sA (sA (sA s 11 f11) 12 f12) 13 f13) 14 f14) 15 f15) 16 f16) 17 f17) 18 f18) 19 f19) 0 0) 25 k25) 33 k33) 34 k34) (by simp only [sA_A, sS_S, sA_S, sA_lt, sS_lt, Nat.reduceLT, id_eq] <;> rfl) ?_
  refine JW.aload_n dX3_which_5 rfl ?_
  refine JW.iload_n dX3_which_6 rfl ?_
  refine JW.i2l dX3_which_7 ?_
  obtain ⟨o_1, K⟩ := K
  refine JW.mcall (As := [vL x1]) dX3_which_8 vX3_isNumber rfl q1806 (ctX3_isNumber b (sS (sS (sS (sS (sA (sA (sA (sA (sA (sA (sA (sA (sA s 11 f11) 12 f12) 13 f13) 14 f14) 15 f15) 16 f16) 17 f17) 18 f18) 19 f19) 0 0) 25 k25) 33 k33) 34 k34) x1 o_1) (Nat.le_of_ble_eq_true rfl) rfl (Nat.le_of_ble_eq_true rfl) ?_
  rintro _ _ ⟨rfl, eq_2⟩
  refine JW.steq (s2 := sS (sS (sS (sS (sA (sA (sA (sA (sA (sA (sA (sA (sA s 11 f11) 12 f12) 13 f13) 14 f14) 15 f15) 16 f16) 17 f17) 18 f18) 19 f19) 0 0) 25 k25) 33 k33) 34 k34) eq_2 ?_
  refine JW.if_eq (tgt := 23) dX3_which_11 rfl (fun c_3 => ?_) (fun c_3 => ?_)
  · have K := K.1 c_3
    refine JW.bipush dX3_which_23 rfl ?_
    exact JW.ireturn dX3_which_25 rfl rfl ⟨_, rfl, K⟩
  · have K := K.2 c_3
    refine JW.aload_n dX3_which_14 rfl ?_
    refine JW.iload_n dX3_which_15 rfl ?_
    refine JW.i2l dX3_which_16 ?_
    refine JW.mcall (As := [vL x2]) dX3_which_17 vX3_isNumber rfl q1806 (ctX3_isNumber b (sS (sS (sS (sS (sA (sA (sA (sA (sA (sA (sA (sA (sA s 11 f11) 12 f12) 13 f13) 14 f14) 15 f15) 16 f16) 17 f17) 18 f18) 19 f19) 0 0) 25 k25) 33 k33) 34 k34) x2 o_1) (Nat.le_of_ble_eq_true rfl) rfl (Nat.le_of_ble_eq_true rfl) ?_
    rintro _ _ ⟨rfl, eq_4⟩
    refine JW.steq (s2 := sS (sS (sS (sS (sA (sA (sA (sA (sA (sA (sA (sA (sA s 11 f11) 12 f12) 13 f13) 14 f14) 15 f15) 16 f16) 17 f17) 18 f18) 19 f19) 0 0) 25 k25) 33 k33) 34 k34) eq_4 ?_
    refine JW.if_ne (tgt := 26) dX3_which_20 rfl (fun c_5 => ?_) (fun c_5 => ?_)
    · have K := K.1 c_5
      refine JW.iconst dX3_which_26 rfl ?_
      refine JW.istore_n (ls' := [(0, vR 351), (1, vI x1), (2, vI x2), (3, vI 0)]) dX3_which_27 (Nat.le_of_ble_eq_true rfl) rfl ?_
      exact JW.pick [0, 1, 2, 3] rfl K
    · have K := K.2 c_5
      refine JW.bipush dX3_which_23 rfl ?_
      exact JW.ireturn dX3_which_25 rfl rfl ⟨_, rfl, K⟩
theorem bX3_which_28 {Q : Option AV → MS → Prop} (b : AH) (s : MS) (x1 : Int) (x2 : Int) (x3 : Int) (f11 : Int → Int) (f12 : Int → Int) (f13 : Int → Int) (f14 : Int → Int) (f15 : Int → Int) (f16 : Int → Int) (f17 : Int → Int) (f18 : Int → Int) (f19 : Int → Int) (k0 : Int) (k25 : Int) (k33 : Int) (k34 : Int) (K : ((s.2 6 3) ≤ x3 → Q (some (vI (-1))) (sS (sS (sS (sS (sA (sA (sA (sA (sA (sA (sA (sA (sA s 11 f11) 12 f12) 13 f13) 14 f14) 15 f15) 16 f16) 17 f17) 18 f18) 19 f19) 0 k0) 25 k25) 33 k33) 34 k34)) ∧ (¬ (s.2 6 3) ≤ x3 → HX3_which_41 Q b s x1 x2 x3 0 f11 f12 f13 f14 f15 f16 f17 f18 f19 k0 k25 k33 k34)) : HX3_which_28 Q b s x1 x2 x3 f11 f12 f13 f14 f15 f16 f17 f18 f19 k0 k25 k33 k34 := by
  refine JW.iload_n dX3_which_28 rfl ?_
  refine JW.aload_n dX3_which_29 rfl ?_
  refine JW.mget (v := vR 358) dX3_which_30 fX3_34 rfl ?_
  refine JW.iconst dX3_which_33 rfl ?_
  refine JW.mald 6 (x := (s.2 6 3)) dX3_which_34 (Nat.le_of_ble_eq_true rfl) rfl (by decide) (by decide) rfl ?_
  refine JW.icmp_ge (tgt := 84) dX3_which_35 rfl (fun c_1 => ?_) (fun c_1 => ?_)
  · have K := K.1 c_1
    refine JW.iconst dX3_which_84 rfl ?_
    exact JW.ireturn dX3_which_85 rfl rfl ⟨_, rfl, K⟩
  · have K := K.2 c_1
    refine JW.iconst dX3_which_38 rfl ?_
    refine JW.istore (ls' := [(0, vR 351), (1, vI x1), (2, vI x2), (3, vI x3), (4, vI 0)]) dX3_which_39 (Nat.le_of_ble_eq_true rfl) rfl ?_
    exact JW.pick [0, 1, 2, 3, 4] rfl K
theorem bX3_which_41 {Q : Option AV → MS → Prop} (b : AH) (s : MS) (x1 : Int) (x2 : Int) (x3 : Int) (x4 : Int) (f11 : Int → Int) (f12 : Int → Int) (f13 : Int → Int) (f14 : Int → Int) (f15 : Int → Int) (f16 : Int → Int) (f17 : Int → Int) (f18 : Int → Int) (f19 : Int → Int) (k0 : Int) (k25 : Int) (k33 : Int) (k34 : Int) (K : ((s.2 6 4) ≤ x4 → HX3_which_28 Q b s x1 x2 (i32 (x3 + 1)) f11 f12 f13 f14 f15 f16 f17 f18 f19 k0 k25 k33 k34) ∧ (¬ (s.2 6 4) ≤ x4 → (tOK (s.2 6) ∧ aOK (s.2 6) (s.2 7) ∧ sOK (s.2 6) (s.2 8) ∧ (0 ≤ x1 ∧ x1 < (s.2 6) 2) ∧ (0 ≤ x3 ∧ x3 < (s.2 6) 3) ∧ (0 ≤ x4 ∧ x4 < (s.2 6) 4)) ∧ ((∀ (f_3 : Int → Int) (f_4 : Int → Int) (k_5 : Int), (¬ (slpV (s.2 6) (s.2 7) (s.2 8) x1 x3 x4) = x2 → HX3_which_41 Q b s x1 x2 x3 (i32 (x4 + 1)) f_3 f_4 f13 f14 f15 f16 f17 f18 f19 k0 k_5 k33 k34) ∧ ((slpV (s.2 6) (s.2 7) (s.2 8) x1 x3 x4) = x2 → Q (some (vI (i32 ((i32 (10 * x3)) + x4)))) (sS (sS (sS (sS (sA (sA (sA (sA (sA (sA (sA (sA (sA s 11 f_3) 12 f_4) 13 f13) 14 f14) 15 f15) 16 f16) 17 f17) 18 f18) 19 f19) 0 k0) 25 k_5) 33 k33) 34 k34)))))) : HX3_which_41 Q b s x1 x2 x3 x4 f11 f12 f13 f14 f15 f16 f17 f18 f19 k0 k25 k33 k34 := by
  refine JW.iload dX3_which_41 rfl ?_
  refine JW.aload_n dX3_which_43 rfl ?_
  refine JW.mget (v := vR 358) dX3_which_44 fX3_34 rfl ?_
  refine JW.iconst dX3_which_47 rfl ?_
  refine JW.mald 6 (x := (s.2 6 4)) dX3_which_48 (Nat.le_of_ble_eq_true rfl) rfl (by decide) (by decide) rfl ?_
  refine JW.icmp_ge (tgt := 78) dX3_which_49 rfl (fun c_1 => ?_) (fun c_1 => ?_)
  · have K := K.1 c_1
    refine JW.iinc (ls' := [(0, vR 351), (1, vI x1), (2, vI x2), (3, vI (i32 (x3 + 1))), (4, vI x4)]) dX3_which_78 (Nat.le_of_ble_eq_true rfl) rfl rfl ?_
    refine JW.goto (tgt := 28) dX3_which_81 rfl ?_
    exact JW.pick [0, 1, 2, 3] rfl K
  · have K := K.2 c_1
    refine JW.aload_n dX3_which_52 rfl ?_
    refine JW.iload_n dX3_which_53 rfl ?_
    refine JW.iload_n dX3_which_54 rfl ?_
    refine JW.iload dX3_which_55 rfl ?_
    obtain ⟨o_2, K⟩ := K
    refine JW.mcall (As := [vI x1, vI x3, vI x4]) dX3_which_57 vX3_slipped rfl q2041 (ctX3_slipped b (sS (sS (sS (sS (sA (sA (sA (sA (sA (sA (sA (sA (sA s 11 f11) 12 f12) 13 f13) 14 f14) 15 f15) 16 f16) 17 f17) 18 f18) 19 f19) 0 k0) 25 k25) 33 k33) 34 k34) x1 x3 x4 o_2) (Nat.le_of_ble_eq_true rfl) rfl (Nat.le_of_ble_eq_true rfl) ?_
    rintro _ _ ⟨f_3, f_4, k_5, rfl, rfl⟩
    refine JW.steq (s2 := sS (sS (sS (sS (sA (sA (sA (sA (sA (sA (sA (sA (sA s 11 f_3) 12 f_4) 13 f13) 14 f14) 15 f15) 16 f16) 17 f17) 18 f18) 19 f19) 0 k0) 25 k_5) 33 k33) 34 k34) (by simp only [sA_A, sS_S, sA_S, sA_lt, sS_lt, Nat.reduceLT, id_eq] <;> rfl) ?_
    replace K := K f_3 f_4 k_5
    refine JW.iload_n dX3_which_60 rfl ?_
    refine JW.icmp_ne (tgt := 72) dX3_which_61 rfl (fun c_7 => ?_) (fun c_7 => ?_)
    · have K := K.1 c_7
      refine JW.iinc (ls' := [(0, vR 351), (1, vI x1), (2, vI x2), (3, vI x3), (4, vI (i32 (x4 + 1)))]) dX3_which_72 (Nat.le_of_ble_eq_true rfl) rfl rfl ?_
      refine JW.goto (tgt := 41) dX3_which_75 rfl ?_
      exact JW.pick [0, 1, 2, 3, 4] rfl K
    · have K := K.2 c_7
      refine JW.bipush dX3_which_64 rfl ?_
      refine JW.iload_n dX3_which_66 rfl ?_
      refine JW.imul dX3_which_67 ?_
      refine JW.iload dX3_which_68 rfl ?_
      refine JW.iadd dX3_which_70 ?_
      exact JW.ireturn dX3_which_71 rfl rfl ⟨_, rfl, K⟩
def QX3_which (s : MS) (a1 : Int) (a2 : Int) : Option AV → MS → Prop := fun v s' => ∃ (f11 : Int → Int) (f12 : Int → Int) (f13 : Int → Int) (f14 : Int → Int) (f15 : Int → Int) (f16 : Int → Int) (f17 : Int → Int) (f18 : Int → Int) (f19 : Int → Int) (k25 : Int) (k33 : Int) (k34 : Int), v = some (vI (rWhich (s.2 6) (s.2 7) (s.2 8) a1 a2)) ∧ s' = sS (sS (sS (sS (sA (sA (sA (sA (sA (sA (sA (sA (sA s 11 f11) 12 f12) 13 f13) 14 f14) 15 f15) 16 f16) 17 f17) 18 f18) 19 f19) 0 (0)) 25 k25) 33 k33) 34 k34
theorem vX3_which_1 (s : MS) (a1 : Int) (a2 : Int) (hp : tOK (s.2 6) ∧ aOK (s.2 6) (s.2 7) ∧ sOK (s.2 6) (s.2 8)) (x1 : Int) (x2 : Int) (x3 : Int) (f11 : Int → Int) (f12 : Int → Int) (f13 : Int → Int) (f14 : Int → Int) (f15 : Int → Int) (f16 : Int → Int) (f17 : Int → Int) (f18 : Int → Int) (f19 : Int → Int) (k0 : Int) (k25 : Int) (k33 : Int) (k34 : Int) (hI : k0 = 0 ∧ (x1 = a1 ∧ x2 = a2 ∧ 0 ≤ a1 ∧ a1 < s.2 6 2 ∧ 0 ≤ a2 ∧ a2 < s.2 6 2) ∧ (0 ≤ x3 ∧ x3 ≤ s.2 6 3) ∧ ∀ i : Int, 0 ≤ i → i < x3 → ¬ slipAt (s.2 6) (s.2 7) (s.2 8) a1 a2 i) (c_1 : (s.2 6 3) ≤ x3) : k0 = (0) := by
  obtain ⟨ht, ha, hs⟩ := hp
  have hW := tOK_W ht
  have hS := tOK_S ht
  have hN := tOK_N ht
  (try simp only [bI_0, bI_n, Classical.not_not] at *)
  (try unfold lex3)
  (try simp only [bI_0, bI_n, Classical.not_not] at *)
  (try simp (disch := omega) only [i32_id] at *)
  first | done | omega | ((repeat' (with_reducible apply And.intro)) <;> first | assumption | rfl | omega | (exact hI.1) | (exact hI.2.2.2) | (exact hI.2.2.2.1) | (unfold rWhich; rw [if_neg (by omega)]) | (intro i h0 h1; omega) | (intro i h0 h1; by_cases e : i = x3; (focus (rw [e]; exact fun ⟨z, q, w⟩ => hI.2.2.2.2.2 z q.1 (by omega) w)); (focus (exact hI.2.2.2.1 i h0 (by omega)))) | (intro i h0 h1; by_cases e : i = x4; (focus (rw [e, ← hI.2.1.1, ← hI.2.1.2.1]; assumption)); (focus (exact hI.2.2.2.2.2 i h0 (by omega)))) | (have e1 : whichI (s.2 6) (s.2 7) (s.2 8) a1 a2 = -1 := (nth_eq (isNth_nofirst (fun z a b => hI.2.2.2 z a (by omega)))).symm; unfold rWhich; rw [if_pos (by omega), if_pos e1]) | (have hx := hI.2.1; rw [hx.1, hx.2.1] at c_7; have e1 : whichI (s.2 6) (s.2 7) (s.2 8) a1 a2 = x3 := (nth_eq (isNth_first (by omega) (by omega) ⟨x4, ⟨by omega, by omega⟩, c_7⟩ hI.2.2.2.1)).symm; have e2 := nth_eq (isNth_first (p := fun s_1 => slpV (s.2 6) (s.2 7) (s.2 8) a1 x3 s_1 = a2) (N := s.2 6 4) (by omega) (by omega) c_7 hI.2.2.2.2.2); unfold rWhich; rw [if_pos (by omega), e1, if_neg (by omega), ← e2]) | grind [upI])
theorem vX3_which_2 (s : MS) (a1 : Int) (a2 : Int) (hp : tOK (s.2 6) ∧ aOK (s.2 6) (s.2 7) ∧ sOK (s.2 6) (s.2 8)) (x1 : Int) (x2 : Int) (x3 : Int) (f11 : Int → Int) (f12 : Int → Int) (f13 : Int → Int) (f14 : Int → Int) (f15 : Int → Int) (f16 : Int → Int) (f17 : Int → Int) (f18 : Int → Int) (f19 : Int → Int) (k0 : Int) (k25 : Int) (k33 : Int) (k34 : Int) (hI : k0 = 0 ∧ (x1 = a1 ∧ x2 = a2 ∧ 0 ≤ a1 ∧ a1 < s.2 6 2 ∧ 0 ≤ a2 ∧ a2 < s.2 6 2) ∧ (0 ≤ x3 ∧ x3 ≤ s.2 6 3) ∧ ∀ i : Int, 0 ≤ i → i < x3 → ¬ slipAt (s.2 6) (s.2 7) (s.2 8) a1 a2 i) (c_1 : (s.2 6 3) ≤ x3) : (-1) = (rWhich (s.2 6) (s.2 7) (s.2 8) a1 a2) := by
  obtain ⟨ht, ha, hs⟩ := hp
  have hW := tOK_W ht
  have hS := tOK_S ht
  have hN := tOK_N ht
  (try simp only [bI_0, bI_n, Classical.not_not] at *)
  (try unfold lex3)
  (try simp only [bI_0, bI_n, Classical.not_not] at *)
  (try simp (disch := omega) only [i32_id] at *)
  first | done | omega | ((repeat' (with_reducible apply And.intro)) <;> first | assumption | rfl | omega | (exact hI.1) | (exact hI.2.2.2) | (exact hI.2.2.2.1) | (unfold rWhich; rw [if_neg (by omega)]) | (intro i h0 h1; omega) | (intro i h0 h1; by_cases e : i = x3; (focus (rw [e]; exact fun ⟨z, q, w⟩ => hI.2.2.2.2.2 z q.1 (by omega) w)); (focus (exact hI.2.2.2.1 i h0 (by omega)))) | (intro i h0 h1; by_cases e : i = x4; (focus (rw [e, ← hI.2.1.1, ← hI.2.1.2.1]; assumption)); (focus (exact hI.2.2.2.2.2 i h0 (by omega)))) | (have e1 : whichI (s.2 6) (s.2 7) (s.2 8) a1 a2 = -1 := (nth_eq (isNth_nofirst (fun z a b => hI.2.2.2 z a (by omega)))).symm; unfold rWhich; rw [if_pos (by omega), if_pos e1]) | (have hx := hI.2.1; rw [hx.1, hx.2.1] at c_7; have e1 : whichI (s.2 6) (s.2 7) (s.2 8) a1 a2 = x3 := (nth_eq (isNth_first (by omega) (by omega) ⟨x4, ⟨by omega, by omega⟩, c_7⟩ hI.2.2.2.1)).symm; have e2 := nth_eq (isNth_first (p := fun s_1 => slpV (s.2 6) (s.2 7) (s.2 8) a1 x3 s_1 = a2) (N := s.2 6 4) (by omega) (by omega) c_7 hI.2.2.2.2.2); unfold rWhich; rw [if_pos (by omega), e1, if_neg (by omega), ← e2]) | grind [upI])
theorem vX3_which_3 (s : MS) (a1 : Int) (a2 : Int) (hp : tOK (s.2 6) ∧ aOK (s.2 6) (s.2 7) ∧ sOK (s.2 6) (s.2 8)) (x1 : Int) (x2 : Int) (x3 : Int) (f11 : Int → Int) (f12 : Int → Int) (f13 : Int → Int) (f14 : Int → Int) (f15 : Int → Int) (f16 : Int → Int) (f17 : Int → Int) (f18 : Int → Int) (f19 : Int → Int) (k0 : Int) (k25 : Int) (k33 : Int) (k34 : Int) (hI : k0 = 0 ∧ (x1 = a1 ∧ x2 = a2 ∧ 0 ≤ a1 ∧ a1 < s.2 6 2 ∧ 0 ≤ a2 ∧ a2 < s.2 6 2) ∧ (0 ≤ x3 ∧ x3 ≤ s.2 6 3) ∧ ∀ i : Int, 0 ≤ i → i < x3 → ¬ slipAt (s.2 6) (s.2 7) (s.2 8) a1 a2 i) (c_1 : ¬ (s.2 6 3) ≤ x3) : k0 = 0 ∧ (x1 = a1 ∧ x2 = a2 ∧ 0 ≤ a1 ∧ a1 < s.2 6 2 ∧ 0 ≤ a2 ∧ a2 < s.2 6 2) ∧ (0 ≤ x3 ∧ x3 < s.2 6 3) ∧ (∀ i : Int, 0 ≤ i → i < x3 → ¬ slipAt (s.2 6) (s.2 7) (s.2 8) a1 a2 i) ∧ (0 ≤ (0 : Int) ∧ (0 : Int) ≤ s.2 6 4) ∧ ∀ j : Int, 0 ≤ j → j < (0 : Int) → slpV (s.2 6) (s.2 7) (s.2 8) a1 x3 j ≠ a2 := by
  obtain ⟨ht, ha, hs⟩ := hp
  have hW := tOK_W ht
  have hS := tOK_S ht
  have hN := tOK_N ht
  (try simp only [bI_0, bI_n, Classical.not_not] at *)
  (try unfold lex3)
  (try simp only [bI_0, bI_n, Classical.not_not] at *)
  (try simp (disch := omega) only [i32_id] at *)
  first | done | omega | ((repeat' (with_reducible apply And.intro)) <;> first | assumption | rfl | omega | (exact hI.1) | (exact hI.2.2.2) | (exact hI.2.2.2.1) | (unfold rWhich; rw [if_neg (by omega)]) | (intro i h0 h1; omega) | (intro i h0 h1; by_cases e : i = x3; (focus (rw [e]; exact fun ⟨z, q, w⟩ => hI.2.2.2.2.2 z q.1 (by omega) w)); (focus (exact hI.2.2.2.1 i h0 (by omega)))) | (intro i h0 h1; by_cases e : i = x4; (focus (rw [e, ← hI.2.1.1, ← hI.2.1.2.1]; assumption)); (focus (exact hI.2.2.2.2.2 i h0 (by omega)))) | (have e1 : whichI (s.2 6) (s.2 7) (s.2 8) a1 a2 = -1 := (nth_eq (isNth_nofirst (fun z a b => hI.2.2.2 z a (by omega)))).symm; unfold rWhich; rw [if_pos (by omega), if_pos e1]) | (have hx := hI.2.1; rw [hx.1, hx.2.1] at c_7; have e1 : whichI (s.2 6) (s.2 7) (s.2 8) a1 a2 = x3 := (nth_eq (isNth_first (by omega) (by omega) ⟨x4, ⟨by omega, by omega⟩, c_7⟩ hI.2.2.2.1)).symm; have e2 := nth_eq (isNth_first (p := fun s_1 => slpV (s.2 6) (s.2 7) (s.2 8) a1 x3 s_1 = a2) (N := s.2 6 4) (by omega) (by omega) c_7 hI.2.2.2.2.2); unfold rWhich; rw [if_pos (by omega), e1, if_neg (by omega), ← e2]) | grind [upI])
theorem vX3_which_4 (s : MS) (a1 : Int) (a2 : Int) (hp : tOK (s.2 6) ∧ aOK (s.2 6) (s.2 7) ∧ sOK (s.2 6) (s.2 8)) (x1 : Int) (x2 : Int) (x3 : Int) (f11 : Int → Int) (f12 : Int → Int) (f13 : Int → Int) (f14 : Int → Int) (f15 : Int → Int) (f16 : Int → Int) (f17 : Int → Int) (f18 : Int → Int) (f19 : Int → Int) (k0 : Int) (k25 : Int) (k33 : Int) (k34 : Int) (hI : k0 = 0 ∧ (x1 = a1 ∧ x2 = a2 ∧ 0 ≤ a1 ∧ a1 < s.2 6 2 ∧ 0 ≤ a2 ∧ a2 < s.2 6 2) ∧ (0 ≤ x3 ∧ x3 ≤ s.2 6 3) ∧ ∀ i : Int, 0 ≤ i → i < x3 → ¬ slipAt (s.2 6) (s.2 7) (s.2 8) a1 a2 i) (c_1 : ¬ (s.2 6 3) ≤ x3) : lex3 0 ((s.2 6 3 - x3).toNat - 1) ((s.2 6 4 - (0 : Int)).toNat + 1) 0 ((s.2 6 3 - x3).toNat) 0 := by
  obtain ⟨ht, ha, hs⟩ := hp
  have hW := tOK_W ht
  have hS := tOK_S ht
  have hN := tOK_N ht
  (try simp only [bI_0, bI_n, Classical.not_not] at *)
  (try unfold lex3)
  (try simp only [bI_0, bI_n, Classical.not_not] at *)
  (try simp (disch := omega) only [i32_id] at *)
  first | done | omega | ((repeat' (with_reducible apply And.intro)) <;> first | assumption | rfl | omega | (exact hI.1) | (exact hI.2.2.2) | (exact hI.2.2.2.1) | (unfold rWhich; rw [if_neg (by omega)]) | (intro i h0 h1; omega) | (intro i h0 h1; by_cases e : i = x3; (focus (rw [e]; exact fun ⟨z, q, w⟩ => hI.2.2.2.2.2 z q.1 (by omega) w)); (focus (exact hI.2.2.2.1 i h0 (by omega)))) | (intro i h0 h1; by_cases e : i = x4; (focus (rw [e, ← hI.2.1.1, ← hI.2.1.2.1]; assumption)); (focus (exact hI.2.2.2.2.2 i h0 (by omega)))) | (have e1 : whichI (s.2 6) (s.2 7) (s.2 8) a1 a2 = -1 := (nth_eq (isNth_nofirst (fun z a b => hI.2.2.2 z a (by omega)))).symm; unfold rWhich; rw [if_pos (by omega), if_pos e1]) | (have hx := hI.2.1; rw [hx.1, hx.2.1] at c_7; have e1 : whichI (s.2 6) (s.2 7) (s.2 8) a1 a2 = x3 := (nth_eq (isNth_first (by omega) (by omega) ⟨x4, ⟨by omega, by omega⟩, c_7⟩ hI.2.2.2.1)).symm; have e2 := nth_eq (isNth_first (p := fun s_1 => slpV (s.2 6) (s.2 7) (s.2 8) a1 x3 s_1 = a2) (N := s.2 6 4) (by omega) (by omega) c_7 hI.2.2.2.2.2); unfold rWhich; rw [if_pos (by omega), e1, if_neg (by omega), ← e2]) | grind [upI])
theorem vX3_which_5 (s : MS) (a1 : Int) (a2 : Int) (hp : tOK (s.2 6) ∧ aOK (s.2 6) (s.2 7) ∧ sOK (s.2 6) (s.2 8)) (x1 : Int) (x2 : Int) (x3 : Int) (x4 : Int) (f11 : Int → Int) (f12 : Int → Int) (f13 : Int → Int) (f14 : Int → Int) (f15 : Int → Int) (f16 : Int → Int) (f17 : Int → Int) (f18 : Int → Int) (f19 : Int → Int) (k0 : Int) (k25 : Int) (k33 : Int) (k34 : Int) (hI : k0 = 0 ∧ (x1 = a1 ∧ x2 = a2 ∧ 0 ≤ a1 ∧ a1 < s.2 6 2 ∧ 0 ≤ a2 ∧ a2 < s.2 6 2) ∧ (0 ≤ x3 ∧ x3 < s.2 6 3) ∧ (∀ i : Int, 0 ≤ i → i < x3 → ¬ slipAt (s.2 6) (s.2 7) (s.2 8) a1 a2 i) ∧ (0 ≤ x4 ∧ x4 ≤ s.2 6 4) ∧ ∀ j : Int, 0 ≤ j → j < x4 → slpV (s.2 6) (s.2 7) (s.2 8) a1 x3 j ≠ a2) (c_1 : (s.2 6 4) ≤ x4) : k0 = 0 ∧ (x1 = a1 ∧ x2 = a2 ∧ 0 ≤ a1 ∧ a1 < s.2 6 2 ∧ 0 ≤ a2 ∧ a2 < s.2 6 2) ∧ (0 ≤ (i32 (x3 + 1)) ∧ (i32 (x3 + 1)) ≤ s.2 6 3) ∧ ∀ i : Int, 0 ≤ i → i < (i32 (x3 + 1)) → ¬ slipAt (s.2 6) (s.2 7) (s.2 8) a1 a2 i := by
  obtain ⟨ht, ha, hs⟩ := hp
  have hW := tOK_W ht
  have hS := tOK_S ht
  have hN := tOK_N ht
  (try simp only [bI_0, bI_n, Classical.not_not] at *)
  (try unfold lex3)
  (try simp only [bI_0, bI_n, Classical.not_not] at *)
  (try simp (disch := omega) only [i32_id] at *)
  first | done | omega | ((repeat' (with_reducible apply And.intro)) <;> first | assumption | rfl | omega | (exact hI.1) | (exact hI.2.2.2) | (exact hI.2.2.2.1) | (unfold rWhich; rw [if_neg (by omega)]) | (intro i h0 h1; omega) | (intro i h0 h1; by_cases e : i = x3; (focus (rw [e]; exact fun ⟨z, q, w⟩ => hI.2.2.2.2.2 z q.1 (by omega) w)); (focus (exact hI.2.2.2.1 i h0 (by omega)))) | (intro i h0 h1; by_cases e : i = x4; (focus (rw [e, ← hI.2.1.1, ← hI.2.1.2.1]; assumption)); (focus (exact hI.2.2.2.2.2 i h0 (by omega)))) | (have e1 : whichI (s.2 6) (s.2 7) (s.2 8) a1 a2 = -1 := (nth_eq (isNth_nofirst (fun z a b => hI.2.2.2 z a (by omega)))).symm; unfold rWhich; rw [if_pos (by omega), if_pos e1]) | (have hx := hI.2.1; rw [hx.1, hx.2.1] at c_7; have e1 : whichI (s.2 6) (s.2 7) (s.2 8) a1 a2 = x3 := (nth_eq (isNth_first (by omega) (by omega) ⟨x4, ⟨by omega, by omega⟩, c_7⟩ hI.2.2.2.1)).symm; have e2 := nth_eq (isNth_first (p := fun s_1 => slpV (s.2 6) (s.2 7) (s.2 8) a1 x3 s_1 = a2) (N := s.2 6 4) (by omega) (by omega) c_7 hI.2.2.2.2.2); unfold rWhich; rw [if_pos (by omega), e1, if_neg (by omega), ← e2]) | grind [upI])
theorem vX3_which_6 (s : MS) (a1 : Int) (a2 : Int) (hp : tOK (s.2 6) ∧ aOK (s.2 6) (s.2 7) ∧ sOK (s.2 6) (s.2 8)) (x1 : Int) (x2 : Int) (x3 : Int) (x4 : Int) (f11 : Int → Int) (f12 : Int → Int) (f13 : Int → Int) (f14 : Int → Int) (f15 : Int → Int) (f16 : Int → Int) (f17 : Int → Int) (f18 : Int → Int) (f19 : Int → Int) (k0 : Int) (k25 : Int) (k33 : Int) (k34 : Int) (hI : k0 = 0 ∧ (x1 = a1 ∧ x2 = a2 ∧ 0 ≤ a1 ∧ a1 < s.2 6 2 ∧ 0 ≤ a2 ∧ a2 < s.2 6 2) ∧ (0 ≤ x3 ∧ x3 < s.2 6 3) ∧ (∀ i : Int, 0 ≤ i → i < x3 → ¬ slipAt (s.2 6) (s.2 7) (s.2 8) a1 a2 i) ∧ (0 ≤ x4 ∧ x4 ≤ s.2 6 4) ∧ ∀ j : Int, 0 ≤ j → j < x4 → slpV (s.2 6) (s.2 7) (s.2 8) a1 x3 j ≠ a2) (c_1 : (s.2 6 4) ≤ x4) : lex3 0 ((s.2 6 3 - (i32 (x3 + 1))).toNat) 0 0 ((s.2 6 3 - x3).toNat - 1) ((s.2 6 4 - x4).toNat + 1) := by
  obtain ⟨ht, ha, hs⟩ := hp
  have hW := tOK_W ht
  have hS := tOK_S ht
  have hN := tOK_N ht
  (try simp only [bI_0, bI_n, Classical.not_not] at *)
  (try unfold lex3)
  (try simp only [bI_0, bI_n, Classical.not_not] at *)
  (try simp (disch := omega) only [i32_id] at *)
  first | done | omega | ((repeat' (with_reducible apply And.intro)) <;> first | assumption | rfl | omega | (exact hI.1) | (exact hI.2.2.2) | (exact hI.2.2.2.1) | (unfold rWhich; rw [if_neg (by omega)]) | (intro i h0 h1; omega) | (intro i h0 h1; by_cases e : i = x3; (focus (rw [e]; exact fun ⟨z, q, w⟩ => hI.2.2.2.2.2 z q.1 (by omega) w)); (focus (exact hI.2.2.2.1 i h0 (by omega)))) | (intro i h0 h1; by_cases e : i = x4; (focus (rw [e, ← hI.2.1.1, ← hI.2.1.2.1]; assumption)); (focus (exact hI.2.2.2.2.2 i h0 (by omega)))) | (have e1 : whichI (s.2 6) (s.2 7) (s.2 8) a1 a2 = -1 := (nth_eq (isNth_nofirst (fun z a b => hI.2.2.2 z a (by omega)))).symm; unfold rWhich; rw [if_pos (by omega), if_pos e1]) | (have hx := hI.2.1; rw [hx.1, hx.2.1] at c_7; have e1 : whichI (s.2 6) (s.2 7) (s.2 8) a1 a2 = x3 := (nth_eq (isNth_first (by omega) (by omega) ⟨x4, ⟨by omega, by omega⟩, c_7⟩ hI.2.2.2.1)).symm; have e2 := nth_eq (isNth_first (p := fun s_1 => slpV (s.2 6) (s.2 7) (s.2 8) a1 x3 s_1 = a2) (N := s.2 6 4) (by omega) (by omega) c_7 hI.2.2.2.2.2); unfold rWhich; rw [if_pos (by omega), e1, if_neg (by omega), ← e2]) | grind [upI])
theorem vX3_which_7 (s : MS) (a1 : Int) (a2 : Int) (hp : tOK (s.2 6) ∧ aOK (s.2 6) (s.2 7) ∧ sOK (s.2 6) (s.2 8)) (x1 : Int) (x2 : Int) (x3 : Int) (x4 : Int) (f11 : Int → Int) (f12 : Int → Int) (f13 : Int → Int) (f14 : Int → Int) (f15 : Int → Int) (f16 : Int → Int) (f17 : Int → Int) (f18 : Int → Int) (f19 : Int → Int) (k0 : Int) (k25 : Int) (k33 : Int) (k34 : Int) (hI : k0 = 0 ∧ (x1 = a1 ∧ x2 = a2 ∧ 0 ≤ a1 ∧ a1 < s.2 6 2 ∧ 0 ≤ a2 ∧ a2 < s.2 6 2) ∧ (0 ≤ x3 ∧ x3 < s.2 6 3) ∧ (∀ i : Int, 0 ≤ i → i < x3 → ¬ slipAt (s.2 6) (s.2 7) (s.2 8) a1 a2 i) ∧ (0 ≤ x4 ∧ x4 ≤ s.2 6 4) ∧ ∀ j : Int, 0 ≤ j → j < x4 → slpV (s.2 6) (s.2 7) (s.2 8) a1 x3 j ≠ a2) (c_1 : ¬ (s.2 6 4) ≤ x4) : (tOK (s.2 6) ∧ aOK (s.2 6) (s.2 7) ∧ sOK (s.2 6) (s.2 8) ∧ (0 ≤ x1 ∧ x1 < (s.2 6) 2) ∧ (0 ≤ x3 ∧ x3 < (s.2 6) 3) ∧ (0 ≤ x4 ∧ x4 < (s.2 6) 4)) := by
  obtain ⟨ht, ha, hs⟩ := hp
  have hW := tOK_W ht
  have hS := tOK_S ht
  have hN := tOK_N ht
  (try simp only [bI_0, bI_n, Classical.not_not] at *)
  (try unfold lex3)
  (try simp only [bI_0, bI_n, Classical.not_not] at *)
  (try simp (disch := omega) only [i32_id] at *)
  first | done | omega | ((repeat' (with_reducible apply And.intro)) <;> first | assumption | rfl | omega | (exact hI.1) | (exact hI.2.2.2) | (exact hI.2.2.2.1) | (unfold rWhich; rw [if_neg (by omega)]) | (intro i h0 h1; omega) | (intro i h0 h1; by_cases e : i = x3; (focus (rw [e]; exact fun ⟨z, q, w⟩ => hI.2.2.2.2.2 z q.1 (by omega) w)); (focus (exact hI.2.2.2.1 i h0 (by omega)))) | (intro i h0 h1; by_cases e : i = x4; (focus (rw [e, ← hI.2.1.1, ← hI.2.1.2.1]; assumption)); (focus (exact hI.2.2.2.2.2 i h0 (by omega)))) | (have e1 : whichI (s.2 6) (s.2 7) (s.2 8) a1 a2 = -1 := (nth_eq (isNth_nofirst (fun z a b => hI.2.2.2 z a (by omega)))).symm; unfold rWhich; rw [if_pos (by omega), if_pos e1]) | (have hx := hI.2.1; rw [hx.1, hx.2.1] at c_7; have e1 : whichI (s.2 6) (s.2 7) (s.2 8) a1 a2 = x3 := (nth_eq (isNth_first (by omega) (by omega) ⟨x4, ⟨by omega, by omega⟩, c_7⟩ hI.2.2.2.1)).symm; have e2 := nth_eq (isNth_first (p := fun s_1 => slpV (s.2 6) (s.2 7) (s.2 8) a1 x3 s_1 = a2) (N := s.2 6 4) (by omega) (by omega) c_7 hI.2.2.2.2.2); unfold rWhich; rw [if_pos (by omega), e1, if_neg (by omega), ← e2]) | grind [upI])
theorem vX3_which_8 (s : MS) (a1 : Int) (a2 : Int) (hp : tOK (s.2 6) ∧ aOK (s.2 6) (s.2 7) ∧ sOK (s.2 6) (s.2 8)) (x1 : Int) (x2 : Int) (x3 : Int) (x4 : Int) (f11 : Int → Int) (f12 : Int → Int) (f13 : Int → Int) (f14 : Int → Int) (f15 : Int → Int) (f16 : Int → Int) (f17 : Int → Int) (f18 : Int → Int) (f19 : Int → Int) (k0 : Int) (k25 : Int) (k33 : Int) (k34 : Int) (hI : k0 = 0 ∧ (x1 = a1 ∧ x2 = a2 ∧ 0 ≤ a1 ∧ a1 < s.2 6 2 ∧ 0 ≤ a2 ∧ a2 < s.2 6 2) ∧ (0 ≤ x3 ∧ x3 < s.2 6 3) ∧ (∀ i : Int, 0 ≤ i → i < x3 → ¬ slipAt (s.2 6) (s.2 7) (s.2 8) a1 a2 i) ∧ (0 ≤ x4 ∧ x4 ≤ s.2 6 4) ∧ ∀ j : Int, 0 ≤ j → j < x4 → slpV (s.2 6) (s.2 7) (s.2 8) a1 x3 j ≠ a2) (c_1 : ¬ (s.2 6 4) ≤ x4) (o_2 : (tOK (s.2 6) ∧ aOK (s.2 6) (s.2 7) ∧ sOK (s.2 6) (s.2 8) ∧ (0 ≤ x1 ∧ x1 < (s.2 6) 2) ∧ (0 ≤ x3 ∧ x3 < (s.2 6) 3) ∧ (0 ≤ x4 ∧ x4 < (s.2 6) 4))) (f_3 : Int → Int) (f_4 : Int → Int) (k_5 : Int) (c_7 : ¬ (slpV (s.2 6) (s.2 7) (s.2 8) x1 x3 x4) = x2) : k0 = 0 ∧ (x1 = a1 ∧ x2 = a2 ∧ 0 ≤ a1 ∧ a1 < s.2 6 2 ∧ 0 ≤ a2 ∧ a2 < s.2 6 2) ∧ (0 ≤ x3 ∧ x3 < s.2 6 3) ∧ (∀ i : Int, 0 ≤ i → i < x3 → ¬ slipAt (s.2 6) (s.2 7) (s.2 8) a1 a2 i) ∧ (0 ≤ (i32 (x4 + 1)) ∧ (i32 (x4 + 1)) ≤ s.2 6 4) ∧ ∀ j : Int, 0 ≤ j → j < (i32 (x4 + 1)) → slpV (s.2 6) (s.2 7) (s.2 8) a1 x3 j ≠ a2 := by
  obtain ⟨ht, ha, hs⟩ := hp
  have hW := tOK_W ht
  have hS := tOK_S ht
  have hN := tOK_N ht
  (try simp only [bI_0, bI_n, Classical.not_not] at *)
  (try unfold lex3)
  (try simp only [bI_0, bI_n, Classical.not_not] at *)
  (try simp (disch := omega) only [i32_id] at *)
  first | done | omega | ((repeat' (with_reducible apply And.intro)) <;> first | assumption | rfl | omega | (exact hI.1) | (exact hI.2.2.2) | (exact hI.2.2.2.1) | (unfold rWhich; rw [if_neg (by omega)]) | (intro i h0 h1; omega) | (intro i h0 h1; by_cases e : i = x3; (focus (rw [e]; exact fun ⟨z, q, w⟩ => hI.2.2.2.2.2 z q.1 (by omega) w)); (focus (exact hI.2.2.2.1 i h0 (by omega)))) | (intro i h0 h1; by_cases e : i = x4; (focus (rw [e, ← hI.2.1.1, ← hI.2.1.2.1]; assumption)); (focus (exact hI.2.2.2.2.2 i h0 (by omega)))) | (have e1 : whichI (s.2 6) (s.2 7) (s.2 8) a1 a2 = -1 := (nth_eq (isNth_nofirst (fun z a b => hI.2.2.2 z a (by omega)))).symm; unfold rWhich; rw [if_pos (by omega), if_pos e1]) | (have hx := hI.2.1; rw [hx.1, hx.2.1] at c_7; have e1 : whichI (s.2 6) (s.2 7) (s.2 8) a1 a2 = x3 := (nth_eq (isNth_first (by omega) (by omega) ⟨x4, ⟨by omega, by omega⟩, c_7⟩ hI.2.2.2.1)).symm; have e2 := nth_eq (isNth_first (p := fun s_1 => slpV (s.2 6) (s.2 7) (s.2 8) a1 x3 s_1 = a2) (N := s.2 6 4) (by omega) (by omega) c_7 hI.2.2.2.2.2); unfold rWhich; rw [if_pos (by omega), e1, if_neg (by omega), ← e2]) | grind [upI])
theorem vX3_which_9 (s : MS) (a1 : Int) (a2 : Int) (hp : tOK (s.2 6) ∧ aOK (s.2 6) (s.2 7) ∧ sOK (s.2 6) (s.2 8)) (x1 : Int) (x2 : Int) (x3 : Int) (x4 : Int) (f11 : Int → Int) (f12 : Int → Int) (f13 : Int → Int) (f14 : Int → Int) (f15 : Int → Int) (f16 : Int → Int) (f17 : Int → Int) (f18 : Int → Int) (f19 : Int → Int) (k0 : Int) (k25 : Int) (k33 : Int) (k34 : Int) (hI : k0 = 0 ∧ (x1 = a1 ∧ x2 = a2 ∧ 0 ≤ a1 ∧ a1 < s.2 6 2 ∧ 0 ≤ a2 ∧ a2 < s.2 6 2) ∧ (0 ≤ x3 ∧ x3 < s.2 6 3) ∧ (∀ i : Int, 0 ≤ i → i < x3 → ¬ slipAt (s.2 6) (s.2 7) (s.2 8) a1 a2 i) ∧ (0 ≤ x4 ∧ x4 ≤ s.2 6 4) ∧ ∀ j : Int, 0 ≤ j → j < x4 → slpV (s.2 6) (s.2 7) (s.2 8) a1 x3 j ≠ a2) (c_1 : ¬ (s.2 6 4) ≤ x4) (o_2 : (tOK (s.2 6) ∧ aOK (s.2 6) (s.2 7) ∧ sOK (s.2 6) (s.2 8) ∧ (0 ≤ x1 ∧ x1 < (s.2 6) 2) ∧ (0 ≤ x3 ∧ x3 < (s.2 6) 3) ∧ (0 ≤ x4 ∧ x4 < (s.2 6) 4))) (f_3 : Int → Int) (f_4 : Int → Int) (k_5 : Int) (c_7 : ¬ (slpV (s.2 6) (s.2 7) (s.2 8) x1 x3 x4) = x2) : lex3 0 ((s.2 6 3 - x3).toNat - 1) ((s.2 6 4 - (i32 (x4 + 1))).toNat + 1) 0 ((s.2 6 3 - x3).toNat - 1) ((s.2 6 4 - x4).toNat + 1) := by
  obtain ⟨ht, ha, hs⟩ := hp
  have hW := tOK_W ht
  have hS := tOK_S ht
  have hN := tOK_N ht
  (try simp only [bI_0, bI_n, Classical.not_not] at *)
  (try unfold lex3)
  (try simp only [bI_0, bI_n, Classical.not_not] at *)
  (try simp (disch := omega) only [i32_id] at *)
  first | done | omega | ((repeat' (with_reducible apply And.intro)) <;> first | assumption | rfl | omega | (exact hI.1) | (exact hI.2.2.2) | (exact hI.2.2.2.1) | (unfold rWhich; rw [if_neg (by omega)]) | (intro i h0 h1; omega) | (intro i h0 h1; by_cases e : i = x3; (focus (rw [e]; exact fun ⟨z, q, w⟩ => hI.2.2.2.2.2 z q.1 (by omega) w)); (focus (exact hI.2.2.2.1 i h0 (by omega)))) | (intro i h0 h1; by_cases e : i = x4; (focus (rw [e, ← hI.2.1.1, ← hI.2.1.2.1]; assumption)); (focus (exact hI.2.2.2.2.2 i h0 (by omega)))) | (have e1 : whichI (s.2 6) (s.2 7) (s.2 8) a1 a2 = -1 := (nth_eq (isNth_nofirst (fun z a b => hI.2.2.2 z a (by omega)))).symm; unfold rWhich; rw [if_pos (by omega), if_pos e1]) | (have hx := hI.2.1; rw [hx.1, hx.2.1] at c_7; have e1 : whichI (s.2 6) (s.2 7) (s.2 8) a1 a2 = x3 := (nth_eq (isNth_first (by omega) (by omega) ⟨x4, ⟨by omega, by omega⟩, c_7⟩ hI.2.2.2.1)).symm; have e2 := nth_eq (isNth_first (p := fun s_1 => slpV (s.2 6) (s.2 7) (s.2 8) a1 x3 s_1 = a2) (N := s.2 6 4) (by omega) (by omega) c_7 hI.2.2.2.2.2); unfold rWhich; rw [if_pos (by omega), e1, if_neg (by omega), ← e2]) | grind [upI])
theorem vX3_which_10 (s : MS) (a1 : Int) (a2 : Int) (hp : tOK (s.2 6) ∧ aOK (s.2 6) (s.2 7) ∧ sOK (s.2 6) (s.2 8)) (x1 : Int) (x2 : Int) (x3 : Int) (x4 : Int) (f11 : Int → Int) (f12 : Int → Int) (f13 : Int → Int) (f14 : Int → Int) (f15 : Int → Int) (f16 : Int → Int) (f17 : Int → Int) (f18 : Int → Int) (f19 : Int → Int) (k0 : Int) (k25 : Int) (k33 : Int) (k34 : Int) (hI : k0 = 0 ∧ (x1 = a1 ∧ x2 = a2 ∧ 0 ≤ a1 ∧ a1 < s.2 6 2 ∧ 0 ≤ a2 ∧ a2 < s.2 6 2) ∧ (0 ≤ x3 ∧ x3 < s.2 6 3) ∧ (∀ i : Int, 0 ≤ i → i < x3 → ¬ slipAt (s.2 6) (s.2 7) (s.2 8) a1 a2 i) ∧ (0 ≤ x4 ∧ x4 ≤ s.2 6 4) ∧ ∀ j : Int, 0 ≤ j → j < x4 → slpV (s.2 6) (s.2 7) (s.2 8) a1 x3 j ≠ a2) (c_1 : ¬ (s.2 6 4) ≤ x4) (o_2 : (tOK (s.2 6) ∧ aOK (s.2 6) (s.2 7) ∧ sOK (s.2 6) (s.2 8) ∧ (0 ≤ x1 ∧ x1 < (s.2 6) 2) ∧ (0 ≤ x3 ∧ x3 < (s.2 6) 3) ∧ (0 ≤ x4 ∧ x4 < (s.2 6) 4))) (f_3 : Int → Int) (f_4 : Int → Int) (k_5 : Int) (c_7 : (slpV (s.2 6) (s.2 7) (s.2 8) x1 x3 x4) = x2) : k0 = (0) := by
  obtain ⟨ht, ha, hs⟩ := hp
  have hW := tOK_W ht
  have hS := tOK_S ht
  have hN := tOK_N ht
  (try simp only [bI_0, bI_n, Classical.not_not] at *)
  (try unfold lex3)
  (try simp only [bI_0, bI_n, Classical.not_not] at *)
  (try simp (disch := omega) only [i32_id] at *)
  first | done | omega | ((repeat' (with_reducible apply And.intro)) <;> first | assumption | rfl | omega | (exact hI.1) | (exact hI.2.2.2) | (exact hI.2.2.2.1) | (unfold rWhich; rw [if_neg (by omega)]) | (intro i h0 h1; omega) | (intro i h0 h1; by_cases e : i = x3; (focus (rw [e]; exact fun ⟨z, q, w⟩ => hI.2.2.2.2.2 z q.1 (by omega) w)); (focus (exact hI.2.2.2.1 i h0 (by omega)))) | (intro i h0 h1; by_cases e : i = x4; (focus (rw [e, ← hI.2.1.1, ← hI.2.1.2.1]; assumption)); (focus (exact hI.2.2.2.2.2 i h0 (by omega)))) | (have e1 : whichI (s.2 6) (s.2 7) (s.2 8) a1 a2 = -1 := (nth_eq (isNth_nofirst (fun z a b => hI.2.2.2 z a (by omega)))).symm; unfold rWhich; rw [if_pos (by omega), if_pos e1]) | (have hx := hI.2.1; rw [hx.1, hx.2.1] at c_7; have e1 : whichI (s.2 6) (s.2 7) (s.2 8) a1 a2 = x3 := (nth_eq (isNth_first (by omega) (by omega) ⟨x4, ⟨by omega, by omega⟩, c_7⟩ hI.2.2.2.1)).symm; have e2 := nth_eq (isNth_first (p := fun s_1 => slpV (s.2 6) (s.2 7) (s.2 8) a1 x3 s_1 = a2) (N := s.2 6 4) (by omega) (by omega) c_7 hI.2.2.2.2.2); unfold rWhich; rw [if_pos (by omega), e1, if_neg (by omega), ← e2]) | grind [upI])
theorem vX3_which_11 (s : MS) (a1 : Int) (a2 : Int) (hp : tOK (s.2 6) ∧ aOK (s.2 6) (s.2 7) ∧ sOK (s.2 6) (s.2 8)) (x1 : Int) (x2 : Int) (x3 : Int) (x4 : Int) (f11 : Int → Int) (f12 : Int → Int) (f13 : Int → Int) (f14 : Int → Int) (f15 : Int → Int) (f16 : Int → Int) (f17 : Int → Int) (f18 : Int → Int) (f19 : Int → Int) (k0 : Int) (k25 : Int) (k33 : Int) (k34 : Int) (hI : k0 = 0 ∧ (x1 = a1 ∧ x2 = a2 ∧ 0 ≤ a1 ∧ a1 < s.2 6 2 ∧ 0 ≤ a2 ∧ a2 < s.2 6 2) ∧ (0 ≤ x3 ∧ x3 < s.2 6 3) ∧ (∀ i : Int, 0 ≤ i → i < x3 → ¬ slipAt (s.2 6) (s.2 7) (s.2 8) a1 a2 i) ∧ (0 ≤ x4 ∧ x4 ≤ s.2 6 4) ∧ ∀ j : Int, 0 ≤ j → j < x4 → slpV (s.2 6) (s.2 7) (s.2 8) a1 x3 j ≠ a2) (c_1 : ¬ (s.2 6 4) ≤ x4) (o_2 : (tOK (s.2 6) ∧ aOK (s.2 6) (s.2 7) ∧ sOK (s.2 6) (s.2 8) ∧ (0 ≤ x1 ∧ x1 < (s.2 6) 2) ∧ (0 ≤ x3 ∧ x3 < (s.2 6) 3) ∧ (0 ≤ x4 ∧ x4 < (s.2 6) 4))) (f_3 : Int → Int) (f_4 : Int → Int) (k_5 : Int) (c_7 : (slpV (s.2 6) (s.2 7) (s.2 8) x1 x3 x4) = x2) : (i32 ((i32 (10 * x3)) + x4)) = (rWhich (s.2 6) (s.2 7) (s.2 8) a1 a2) := by
  obtain ⟨ht, ha, hs⟩ := hp
  have hW := tOK_W ht
  have hS := tOK_S ht
  have hN := tOK_N ht
  (try simp only [bI_0, bI_n, Classical.not_not] at *)
  (try unfold lex3)
  (try simp only [bI_0, bI_n, Classical.not_not] at *)
  (try simp (disch := omega) only [i32_id] at *)
  first | done | omega | ((repeat' (with_reducible apply And.intro)) <;> first | assumption | rfl | omega | (exact hI.1) | (exact hI.2.2.2) | (exact hI.2.2.2.1) | (unfold rWhich; rw [if_neg (by omega)]) | (intro i h0 h1; omega) | (intro i h0 h1; by_cases e : i = x3; (focus (rw [e]; exact fun ⟨z, q, w⟩ => hI.2.2.2.2.2 z q.1 (by omega) w)); (focus (exact hI.2.2.2.1 i h0 (by omega)))) | (intro i h0 h1; by_cases e : i = x4; (focus (rw [e, ← hI.2.1.1, ← hI.2.1.2.1]; assumption)); (focus (exact hI.2.2.2.2.2 i h0 (by omega)))) | (have e1 : whichI (s.2 6) (s.2 7) (s.2 8) a1 a2 = -1 := (nth_eq (isNth_nofirst (fun z a b => hI.2.2.2 z a (by omega)))).symm; unfold rWhich; rw [if_pos (by omega), if_pos e1]) | (have hx := hI.2.1; rw [hx.1, hx.2.1] at c_7; have e1 : whichI (s.2 6) (s.2 7) (s.2 8) a1 a2 = x3 := (nth_eq (isNth_first (by omega) (by omega) ⟨x4, ⟨by omega, by omega⟩, c_7⟩ hI.2.2.2.1)).symm; have e2 := nth_eq (isNth_first (p := fun s_1 => slpV (s.2 6) (s.2 7) (s.2 8) a1 x3 s_1 = a2) (N := s.2 6 4) (by omega) (by omega) c_7 hI.2.2.2.2.2); unfold rWhich; rw [if_pos (by omega), e1, if_neg (by omega), ← e2]) | grind [upI])
theorem vX3_which_12 (s : MS) (a1 : Int) (a2 : Int) (hp : tOK (s.2 6) ∧ aOK (s.2 6) (s.2 7) ∧ sOK (s.2 6) (s.2 8)) : (tOK (s.2 6)) := by
  obtain ⟨ht, ha, hs⟩ := hp
  have hW := tOK_W ht
  have hS := tOK_S ht
  have hN := tOK_N ht
  (try simp only [bI_0, bI_n, Classical.not_not] at *)
  (try unfold lex3)
  (try simp only [bI_0, bI_n, Classical.not_not] at *)
  (try simp (disch := omega) only [i32_id] at *)
  first | done | omega | ((repeat' (with_reducible apply And.intro)) <;> first | assumption | rfl | omega | (exact hI.1) | (exact hI.2.2.2) | (exact hI.2.2.2.1) | (unfold rWhich; rw [if_neg (by omega)]) | (intro i h0 h1; omega) | (intro i h0 h1; by_cases e : i = x3; (focus (rw [e]; exact fun ⟨z, q, w⟩ => hI.2.2.2.2.2 z q.1 (by omega) w)); (focus (exact hI.2.2.2.1 i h0 (by omega)))) | (intro i h0 h1; by_cases e : i = x4; (focus (rw [e, ← hI.2.1.1, ← hI.2.1.2.1]; assumption)); (focus (exact hI.2.2.2.2.2 i h0 (by omega)))) | (have e1 : whichI (s.2 6) (s.2 7) (s.2 8) a1 a2 = -1 := (nth_eq (isNth_nofirst (fun z a b => hI.2.2.2 z a (by omega)))).symm; unfold rWhich; rw [if_pos (by omega), if_pos e1]) | (have hx := hI.2.1; rw [hx.1, hx.2.1] at c_7; have e1 : whichI (s.2 6) (s.2 7) (s.2 8) a1 a2 = x3 := (nth_eq (isNth_first (by omega) (by omega) ⟨x4, ⟨by omega, by omega⟩, c_7⟩ hI.2.2.2.1)).symm; have e2 := nth_eq (isNth_first (p := fun s_1 => slpV (s.2 6) (s.2 7) (s.2 8) a1 x3 s_1 = a2) (N := s.2 6 4) (by omega) (by omega) c_7 hI.2.2.2.2.2); unfold rWhich; rw [if_pos (by omega), e1, if_neg (by omega), ← e2]) | grind [upI])
theorem vX3_which_13 (s : MS) (a1 : Int) (a2 : Int) (hp : tOK (s.2 6) ∧ aOK (s.2 6) (s.2 7) ∧ sOK (s.2 6) (s.2 8)) (o_1 : (tOK (s.2 6))) (c_3 : (bI (0 ≤ a1 ∧ a1 < (s.2 6) 2)) = 0) : (-2) = (rWhich (s.2 6) (s.2 7) (s.2 8) a1 a2) := by
  obtain ⟨ht, ha, hs⟩ := hp
  have hW := tOK_W ht
  have hS := tOK_S ht
  have hN := tOK_N ht
  (try simp only [bI_0, bI_n, Classical.not_not] at *)
  (try unfold lex3)
  (try simp only [bI_0, bI_n, Classical.not_not] at *)
  (try simp (disch := omega) only [i32_id] at *)
  first | done | omega | ((repeat' (with_reducible apply And.intro)) <;> first | assumption | rfl | omega | (exact hI.1) | (exact hI.2.2.2) | (exact hI.2.2.2.1) | (unfold rWhich; rw [if_neg (by omega)]) | (intro i h0 h1; omega) | (intro i h0 h1; by_cases e : i = x3; (focus (rw [e]; exact fun ⟨z, q, w⟩ => hI.2.2.2.2.2 z q.1 (by omega) w)); (focus (exact hI.2.2.2.1 i h0 (by omega)))) | (intro i h0 h1; by_cases e : i = x4; (focus (rw [e, ← hI.2.1.1, ← hI.2.1.2.1]; assumption)); (focus (exact hI.2.2.2.2.2 i h0 (by omega)))) | (have e1 : whichI (s.2 6) (s.2 7) (s.2 8) a1 a2 = -1 := (nth_eq (isNth_nofirst (fun z a b => hI.2.2.2 z a (by omega)))).symm; unfold rWhich; rw [if_pos (by omega), if_pos e1]) | (have hx := hI.2.1; rw [hx.1, hx.2.1] at c_7; have e1 : whichI (s.2 6) (s.2 7) (s.2 8) a1 a2 = x3 := (nth_eq (isNth_first (by omega) (by omega) ⟨x4, ⟨by omega, by omega⟩, c_7⟩ hI.2.2.2.1)).symm; have e2 := nth_eq (isNth_first (p := fun s_1 => slpV (s.2 6) (s.2 7) (s.2 8) a1 x3 s_1 = a2) (N := s.2 6 4) (by omega) (by omega) c_7 hI.2.2.2.2.2); unfold rWhich; rw [if_pos (by omega), e1, if_neg (by omega), ← e2]) | grind [upI])
theorem vX3_which_14 (s : MS) (a1 : Int) (a2 : Int) (hp : tOK (s.2 6) ∧ aOK (s.2 6) (s.2 7) ∧ sOK (s.2 6) (s.2 8)) (o_1 : (tOK (s.2 6))) (c_3 : ¬ (bI (0 ≤ a1 ∧ a1 < (s.2 6) 2)) = 0) (c_5 : ¬ (bI (0 ≤ a2 ∧ a2 < (s.2 6) 2)) = 0) : (0 : Int) = 0 ∧ (a1 = a1 ∧ a2 = a2 ∧ 0 ≤ a1 ∧ a1 < s.2 6 2 ∧ 0 ≤ a2 ∧ a2 < s.2 6 2) ∧ (0 ≤ (0 : Int) ∧ (0 : Int) ≤ s.2 6 3) ∧ ∀ i : Int, 0 ≤ i → i < (0 : Int) → ¬ slipAt (s.2 6) (s.2 7) (s.2 8) a1 a2 i := by
  obtain ⟨ht, ha, hs⟩ := hp
  have hW := tOK_W ht
  have hS := tOK_S ht
  have hN := tOK_N ht
  (try simp only [bI_0, bI_n, Classical.not_not] at *)
  (try unfold lex3)
  (try simp only [bI_0, bI_n, Classical.not_not] at *)
  (try simp (disch := omega) only [i32_id] at *)
  first | done | omega | ((repeat' (with_reducible apply And.intro)) <;> first | assumption | rfl | omega | (exact hI.1) | (exact hI.2.2.2) | (exact hI.2.2.2.1) | (unfold rWhich; rw [if_neg (by omega)]) | (intro i h0 h1; omega) | (intro i h0 h1; by_cases e : i = x3; (focus (rw [e]; exact fun ⟨z, q, w⟩ => hI.2.2.2.2.2 z q.1 (by omega) w)); (focus (exact hI.2.2.2.1 i h0 (by omega)))) | (intro i h0 h1; by_cases e : i = x4; (focus (rw [e, ← hI.2.1.1, ← hI.2.1.2.1]; assumption)); (focus (exact hI.2.2.2.2.2 i h0 (by omega)))) | (have e1 : whichI (s.2 6) (s.2 7) (s.2 8) a1 a2 = -1 := (nth_eq (isNth_nofirst (fun z a b => hI.2.2.2 z a (by omega)))).symm; unfold rWhich; rw [if_pos (by omega), if_pos e1]) | (have hx := hI.2.1; rw [hx.1, hx.2.1] at c_7; have e1 : whichI (s.2 6) (s.2 7) (s.2 8) a1 a2 = x3 := (nth_eq (isNth_first (by omega) (by omega) ⟨x4, ⟨by omega, by omega⟩, c_7⟩ hI.2.2.2.1)).symm; have e2 := nth_eq (isNth_first (p := fun s_1 => slpV (s.2 6) (s.2 7) (s.2 8) a1 x3 s_1 = a2) (N := s.2 6 4) (by omega) (by omega) c_7 hI.2.2.2.2.2); unfold rWhich; rw [if_pos (by omega), e1, if_neg (by omega), ← e2]) | grind [upI])
theorem vX3_which_15 (s : MS) (a1 : Int) (a2 : Int) (hp : tOK (s.2 6) ∧ aOK (s.2 6) (s.2 7) ∧ sOK (s.2 6) (s.2 8)) (o_1 : (tOK (s.2 6))) (c_3 : ¬ (bI (0 ≤ a1 ∧ a1 < (s.2 6) 2)) = 0) (c_5 : (bI (0 ≤ a2 ∧ a2 < (s.2 6) 2)) = 0) : (-2) = (rWhich (s.2 6) (s.2 7) (s.2 8) a1 a2) := by
  obtain ⟨ht, ha, hs⟩ := hp
  have hW := tOK_W ht
  have hS := tOK_S ht
  have hN := tOK_N ht
  (try simp only [bI_0, bI_n, Classical.not_not] at *)
  (try unfold lex3)
  (try simp only [bI_0, bI_n, Classical.not_not] at *)
  (try simp (disch := omega) only [i32_id] at *)
  first | done | omega | ((repeat' (with_reducible apply And.intro)) <;> first | assumption | rfl | omega | (exact hI.1) | (exact hI.2.2.2) | (exact hI.2.2.2.1) | (unfold rWhich; rw [if_neg (by omega)]) | (intro i h0 h1; omega) | (intro i h0 h1; by_cases e : i = x3; (focus (rw [e]; exact fun ⟨z, q, w⟩ => hI.2.2.2.2.2 z q.1 (by omega) w)); (focus (exact hI.2.2.2.1 i h0 (by omega)))) | (intro i h0 h1; by_cases e : i = x4; (focus (rw [e, ← hI.2.1.1, ← hI.2.1.2.1]; assumption)); (focus (exact hI.2.2.2.2.2 i h0 (by omega)))) | (have e1 : whichI (s.2 6) (s.2 7) (s.2 8) a1 a2 = -1 := (nth_eq (isNth_nofirst (fun z a b => hI.2.2.2 z a (by omega)))).symm; unfold rWhich; rw [if_pos (by omega), if_pos e1]) | (have hx := hI.2.1; rw [hx.1, hx.2.1] at c_7; have e1 : whichI (s.2 6) (s.2 7) (s.2 8) a1 a2 = x3 := (nth_eq (isNth_first (by omega) (by omega) ⟨x4, ⟨by omega, by omega⟩, c_7⟩ hI.2.2.2.1)).symm; have e2 := nth_eq (isNth_first (p := fun s_1 => slpV (s.2 6) (s.2 7) (s.2 8) a1 x3 s_1 = a2) (N := s.2 6 4) (by omega) (by omega) c_7 hI.2.2.2.2.2); unfold rWhich; rw [if_pos (by omega), e1, if_neg (by omega), ← e2]) | grind [upI])
theorem allX3_which (b : AH) (s : MS) (a1 : Int) (a2 : Int) (hp : tOK (s.2 6) ∧ aOK (s.2 6) (s.2 7) ∧ sOK (s.2 6) (s.2 8)) : ∀ m1 m2 m3 : Nat, (∀ (x1 : Int) (x2 : Int) (x3 : Int) (f11 : Int → Int) (f12 : Int → Int) (f13 : Int → Int) (f14 : Int → Int) (f15 : Int → Int) (f16 : Int → Int) (f17 : Int → Int) (f18 : Int → Int) (f19 : Int → Int) (k0 : Int) (k25 : Int) (k33 : Int) (k34 : Int), m1 = 0 → m2 = ((s.2 6 3 - x3).toNat) → m3 = 0 → (k0 = 0 ∧ (x1 = a1 ∧ x2 = a2 ∧ 0 ≤ a1 ∧ a1 < s.2 6 2 ∧ 0 ≤ a2 ∧ a2 < s.2 6 2) ∧ (0 ≤ x3 ∧ x3 ≤ s.2 6 3) ∧ ∀ i : Int, 0 ≤ i → i < x3 → ¬ slipAt (s.2 6) (s.2 7) (s.2 8) a1 a2 i) → HX3_which_28 (QX3_which s a1 a2) b s x1 x2 x3 f11 f12 f13 f14 f15 f16 f17 f18 f19 k0 k25 k33 k34) ∧ (∀ (x1 : Int) (x2 : Int) (x3 : Int) (x4 : Int) (f11 : Int → Int) (f12 : Int → Int) (f13 : Int → Int) (f14 : Int → Int) (f15 : Int → Int) (f16 : Int → Int) (f17 : Int → Int) (f18 : Int → Int) (f19 : Int → Int) (k0 : Int) (k25 : Int) (k33 : Int) (k34 : Int), m1 = 0 → m2 = ((s.2 6 3 - x3).toNat - 1) → m3 = ((s.2 6 4 - x4).toNat + 1) → (k0 = 0 ∧ (x1 = a1 ∧ x2 = a2 ∧ 0 ≤ a1 ∧ a1 < s.2 6 2 ∧ 0 ≤ a2 ∧ a2 < s.2 6 2) ∧ (0 ≤ x3 ∧ x3 < s.2 6 3) ∧ (∀ i : Int, 0 ≤ i → i < x3 → ¬ slipAt (s.2 6) (s.2 7) (s.2 8) a1 a2 i) ∧ (0 ≤ x4 ∧ x4 ≤ s.2 6 4) ∧ ∀ j : Int, 0 ≤ j → j < x4 → slpV (s.2 6) (s.2 7) (s.2 8) a1 x3 j ≠ a2) → HX3_which_41 (QX3_which s a1 a2) b s x1 x2 x3 x4 f11 f12 f13 f14 f15 f16 f17 f18 f19 k0 k25 k33 k34) := by
  refine lex3_ind ?_
  intro m1 m2 m3 ih
  refine ⟨?_, ?_⟩
  · rintro x1 x2 x3 f11 f12 f13 f14 f15 f16 f17 f18 f19 k0 k25 k33 k34 rfl rfl rfl hI
    refine bX3_which_28 b s x1 x2 x3 f11 f12 f13 f14 f15 f16 f17 f18 f19 k0 k25 k33 k34 ?_
    refine ⟨fun c_1 => ?_, fun c_1 => ?_⟩
    · exact ⟨f11, f12, f13, f14, f15, f16, f17, f18, f19, k25, k33, k34, (rI_c (vX3_which_2 s a1 a2 hp x1 x2 x3 f11 f12 f13 f14 f15 f16 f17 f18 f19 k0 k25 k33 k34 hI c_1)), (sS_c (sS_c (sS_c (sS_c (sA_c (sA_c (sA_c (sA_c (sA_c (sA_c (sA_c (sA_c (sA_c rfl rfl) rfl) rfl) rfl) rfl) rfl) rfl) rfl) rfl) (vX3_which_1 s a1 a2 hp x1 x2 x3 f11 f12 f13 f14 f15 f16 f17 f18 f19 k0 k25 k33 k34 hI c_1)) rfl) rfl) rfl)⟩
    · exact (ih _ _ _ (vX3_which_4 s a1 a2 hp x1 x2 x3 f11 f12 f13 f14 f15 f16 f17 f18 f19 k0 k25 k33 k34 hI c_1)).2 x1 x2 x3 0 f11 f12 f13 f14 f15 f16 f17 f18 f19 k0 k25 k33 k34 rfl rfl rfl (vX3_which_3 s a1 a2 hp x1 x2 x3 f11 f12 f13 f14 f15 f16 f17 f18 f19 k0 k25 k33 k34 hI c_1)
  · rintro x1 x2 x3 x4 f11 f12 f13 f14 f15 f16 f17 f18 f19 k0 k25 k33 k34 rfl rfl rfl hI
    refine bX3_which_41 b s x1 x2 x3 x4 f11 f12 f13 f14 f15 f16 f17 f18 f19 k0 k25 k33 k34 ?_
    refine ⟨fun c_1 => ?_, fun c_1 => ?_⟩
    · exact (ih _ _ _ (vX3_which_6 s a1 a2 hp x1 x2 x3 x4 f11 f12 f13 f14 f15 f16 f17 f18 f19 k0 k25 k33 k34 hI c_1)).1 x1 x2 (i32 (x3 + 1)) f11 f12 f13 f14 f15 f16 f17 f18 f19 k0 k25 k33 k34 rfl rfl rfl (vX3_which_5 s a1 a2 hp x1 x2 x3 x4 f11 f12 f13 f14 f15 f16 f17 f18 f19 k0 k25 k33 k34 hI c_1)
    · have o_2 : (tOK (s.2 6) ∧ aOK (s.2 6) (s.2 7) ∧ sOK (s.2 6) (s.2 8) ∧ (0 ≤ x1 ∧ x1 < (s.2 6) 2) ∧ (0 ≤ x3 ∧ x3 < (s.2 6) 3) ∧ (0 ≤ x4 ∧ x4 < (s.2 6) 4)) := (vX3_which_7 s a1 a2 hp x1 x2 x3 x4 f11 f12 f13 f14 f15 f16 f17 f18 f19 k0 k25 k33 k34 hI c_1)
      refine ⟨o_2, ?_⟩
      intro f_3 f_4 k_5
      refine ⟨fun c_7 => ?_, fun c_7 => ?_⟩
      · exact (ih _ _ _ (vX3_which_9 s a1 a2 hp x1 x2 x3 x4 f11 f12 f13 f14 f15 f16 f17 f18 f19 k0 k25 k33 k34 hI c_1 o_2 f_3 f_4 k_5 c_7)).2 x1 x2 x3 (i32 (x4 + 1)) f_3 f_4 f13 f14 f15 f16 f17 f18 f19 k0 k_5 k33 k34 rfl rfl rfl (vX3_which_8 s a1 a2 hp x1 x2 x3 x4 f11 f12 f13 f14 f15 f16 f17 f18 f19 k0 k25 k33 k34 hI c_1 o_2 f_3 f_4 k_5 c_7)
      · exact ⟨f_3, f_4, f13, f14, f15, f16, f17, f18, f19, k_5, k33, k34, (rI_c (vX3_which_11 s a1 a2 hp x1 x2 x3 x4 f11 f12 f13 f14 f15 f16 f17 f18 f19 k0 k25 k33 k34 hI c_1 o_2 f_3 f_4 k_5 c_7)), (sS_c (sS_c (sS_c (sS_c (sA_c (sA_c (sA_c (sA_c (sA_c (sA_c (sA_c (sA_c (sA_c rfl rfl) rfl) rfl) rfl) rfl) rfl) rfl) rfl) rfl) (vX3_which_10 s a1 a2 hp x1 x2 x3 x4 f11 f12 f13 f14 f15 f16 f17 f18 f19 k0 k25 k33 k34 hI c_1 o_2 f_3 f_4 k_5 c_7)) rfl) rfl) rfl)⟩
theorem ctX3_which (b : AH) (s : MS) (a1 : Int) (a2 : Int) (hp : tOK (s.2 6) ∧ aOK (s.2 6) (s.2 7) ∧ sOK (s.2 6) (s.2 8)) : MC mX3_which 8 b s [vI a1, vI a2] (QX3_which s a1 a2) := by
  refine MC.of (by decide) rfl (Nat.le_of_ble_eq_true rfl) (JW.steq (s2 := sS (sS (sS (sS (sA (sA (sA (sA (sA (sA (sA (sA (sA s 11 (s.2 11)) 12 (s.2 12)) 13 (s.2 13)) 14 (s.2 14)) 15 (s.2 15)) 16 (s.2 16)) 17 (s.2 17)) 18 (s.2 18)) 19 (s.2 19)) 0 (s.1 0)) 25 (s.1 25)) 33 (s.1 33)) 34 (s.1 34)) (by simp only [sA_id, sS_id]) ?_)
  refine bX3_which_0 b s a1 a2 (s.2 11) (s.2 12) (s.2 13) (s.2 14) (s.2 15) (s.2 16) (s.2 17) (s.2 18) (s.2 19) (s.1 0) (s.1 25) (s.1 33) (s.1 34) ?_
  have o_1 : (tOK (s.2 6)) := (vX3_which_12 s a1 a2 hp)
  refine ⟨o_1, ?_⟩
  refine ⟨fun c_3 => ?_, fun c_3 => ?_⟩
  · exact ⟨(s.2 11), (s.2 12), (s.2 13), (s.2 14), (s.2 15), (s.2 16), (s.2 17), (s.2 18), (s.2 19), (s.1 25), (s.1 33), (s.1 34), (rI_c (vX3_which_13 s a1 a2 hp o_1 c_3)), rfl⟩
  · refine ⟨fun c_5 => ?_, fun c_5 => ?_⟩
    · exact (allX3_which b s a1 a2 hp _ _ _).1 a1 a2 0 (s.2 11) (s.2 12) (s.2 13) (s.2 14) (s.2 15) (s.2 16) (s.2 17) (s.2 18) (s.2 19) 0 (s.1 25) (s.1 33) (s.1 34) rfl rfl rfl (vX3_which_14 s a1 a2 hp o_1 c_3 c_5)
    · exact ⟨(s.2 11), (s.2 12), (s.2 13), (s.2 14), (s.2 15), (s.2 16), (s.2 17), (s.2 18), (s.2 19), (s.1 25), (s.1 33), (s.1 34), (rI_c (vX3_which_15 s a1 a2 hp o_1 c_3 c_5)), rfl⟩
def HX3_rowed_0 (Q : Option AV → MS → Prop) (b : AH) (s : MS) (x1 : Int) (x2 : Int) (x3 : Int) (f11 : Int → Int) (f12 : Int → Int) (k25 : Int) : Prop := MW mX3_rowed 5 Q b 0 [(0, vR 351), (1, vI x1), (2, vI x2), (3, vI x3)] [] (sS (sA (sA s 11 f11) 12 f12) 25 k25)
def HX3_rowed_14 (Q : Option AV → MS → Prop) (b : AH) (s : MS) (x2 : Int) (x3 : Int) (x4 : Int) (x5 : Int) (x6 : Int) (f11 : Int → Int) (f12 : Int → Int) (k25 : Int) : Prop := MW mX3_rowed 5 Q b 14 [(0, vR 351), (2, vI x2), (3, vI x3), (4, vI x4), (5, vI x5), (6, vI x6)] [] (sS (sA (sA s 11 f11) 12 f12) 25 k25)
def HX3_rowed_39 (Q : Option AV → MS → Prop) (b : AH) (s : MS) (x2 : Int) (x4 : Int) (x5 : Int) (x6 : Int) (x7 : Int) (f11 : Int → Int) (f12 : Int → Int) (k25 : Int) : Prop := MW mX3_rowed 5 Q b 39 [(0, vR 351), (2, vI x2), (4, vI x4), (5, vI x5), (6, vI x6), (7, vI x7)] [] (sS (sA (sA s 11 f11) 12 f12) 25 k25)
theorem bX3_rowed_0 {Q : Option AV → MS → Prop} (b : AH) (s : MS) (x1 : Int) (x2 : Int) (x3 : Int) (f11 : Int → Int) (f12 : Int → Int) (k25 : Int) (K : HX3_rowed_14 Q b s x2 x3 x1 1 1 f11 f12 x1) : HX3_rowed_0 Q b s x1 x2 x3 f11 f12 k25 := by
  refine JW.aload_n dX3_rowed_0 rfl ?_
  refine JW.iload_n dX3_rowed_1 rfl ?_
  refine JW.mputI dX3_rowed_2 (pX3_274 _) rfl ?_
  refine JW.steq (s2 := sS (sA (sA s 11 f11) 12 f12) 25 x1) (by simp only [sA_A, sS_S, sA_S, sA_lt, sS_lt, Nat.reduceLT, id_eq] <;> rfl) ?_
  refine JW.iload_n dX3_rowed_5 rfl ?_
  refine JW.istore (ls' := [(0, vR 351), (1, vI x1), (2, vI x2), (3, vI x3), (4, vI x1)]) dX3_rowed_6 (Nat.le_of_ble_eq_true rfl) rfl ?_
  refine JW.iconst dX3_rowed_8 rfl ?_
  refine JW.istore (ls' := [(0, vR 351), (1, vI x1), (2, vI x2), (3, vI x3), (4, vI x1), (5, vI 1)]) dX3_rowed_9 (Nat.le_of_ble_eq_true rfl) rfl ?_
  refine JW.iconst dX3_rowed_11 rfl ?_
  refine JW.istore (ls' := [(0, vR 351), (1, vI x1), (2, vI x2), (3, vI x3), (4, vI x1), (5, vI 1), (6, vI 1)]) dX3_rowed_12 (Nat.le_of_ble_eq_true rfl) rfl ?_
  exact JW.pick [0, 2, 3, 4, 5, 6] rfl K
theorem bX3_rowed_14 {Q : Option AV → MS → Prop} (b : AH) (s : MS) (x2 : Int) (x3 : Int) (x4 : Int) (x5 : Int) (x6 : Int) (f11 : Int → Int) (f12 : Int → Int) (k25 : Int) (K : (x2 ≤ x6 → HX3_rowed_39 Q b s x2 x4 x5 x3 0 f11 f12 k25) ∧ (¬ x2 ≤ x6 → HX3_rowed_14 Q b s x2 x3 x4 (i32 (x5 * 12)) (i32 (x6 + 1)) f11 f12 k25)) : HX3_rowed_14 Q b s x2 x3 x4 x5 x6 f11 f12 k25 := by
  refine JW.iload dX3_rowed_14 rfl ?_
  refine JW.iload_n dX3_rowed_16 rfl ?_
  refine JW.icmp_ge (tgt := 33) dX3_rowed_17 rfl (fun c_1 => ?_) (fun c_1 => ?_)
  · have K := K.1 c_1
    refine JW.iload_n dX3_rowed_33 rfl ?_
    refine JW.istore (ls' := [(0, vR 351), (2, vI x2), (3, vI x3), (4, vI x4), (5, vI x5), (6, vI x3)]) dX3_rowed_34 (Nat.le_of_ble_eq_true rfl) rfl ?_
    refine JW.iconst dX3_rowed_36 rfl ?_
    refine JW.istore (ls' := [(0, vR 351), (2, vI x2), (3, vI x3), (4, vI x4), (5, vI x5), (6, vI x3), (7, vI 0)]) dX3_rowed_37 (Nat.le_of_ble_eq_true rfl) rfl ?_
    exact JW.pick [0, 2, 4, 5, 6, 7] rfl K
  · have K := K.2 c_1
    refine JW.iload dX3_rowed_20 rfl ?_
    refine JW.bipush dX3_rowed_22 rfl ?_
    refine JW.imul dX3_rowed_24 ?_
    refine JW.istore (ls' := [(0, vR 351), (2, vI x2), (3, vI x3), (4, vI x4), (5, vI (i32 (x5 * 12))), (6, vI x6)]) dX3_rowed_25 (Nat.le_of_ble_eq_true rfl) rfl ?_
    refine JW.iinc (ls' := [(0, vR 351), (2, vI x2), (3, vI x3), (4, vI x4), (5, vI (i32 (x5 * 12))), (6, vI (i32 (x6 + 1)))]) dX3_rowed_27 (Nat.le_of_ble_eq_true rfl) rfl rfl ?_
    refine JW.goto (tgt := 14) dX3_rowed_30 rfl ?_
    exact JW.pick [0, 2, 3, 4, 5, 6] rfl K
theorem bX3_rowed_39 {Q : Option AV → MS → Prop} (b : AH) (s : MS) (x2 : Int) (x4 : Int) (x5 : Int) (x6 : Int) (x7 : Int) (f11 : Int → Int) (f12 : Int → Int) (k25 : Int) (K : (x2 ≤ x7 → Q (some (vI x4)) (sS (sA (sA s 11 f11) 12 f12) 25 k25)) ∧ (¬ x2 ≤ x7 → x5 ≠ 0 ∧ ((tOK (s.2 6) ∧ 0 ≤ x4 ∧ x4 < (s.2 6) 2 ∧ (0 ≤ k25 ∧ k25 < (s.2 6) 2) ∧ wOK ((s.2 6) 0) (i32 (Int.tdiv x6 x5)) ((-1) : Int)) ∧ ((∀ (f_4 : Int → Int) (f_5 : Int → Int), HX3_rowed_39 Q b s x2 (wdo (s.2 6) k25 x4 (i32 (Int.tdiv x6 x5)) ((-1) : Int)) (i32 (Int.tdiv x5 12)) (i32 (Int.tmod x6 x5)) (i32 (x7 + 1)) f_4 f_5 (wkp k25 x4 (i32 (Int.tdiv x6 x5)))))))) : HX3_rowed_39 Q b s x2 x4 x5 x6 x7 f11 f12 k25 := by
  refine JW.iload dX3_rowed_39 rfl ?_
  refine JW.iload_n dX3_rowed_41 rfl ?_
  refine JW.icmp_ge (tgt := 79) dX3_rowed_42 rfl (fun c_1 => ?_) (fun c_1 => ?_)
  · have K := K.1 c_1
    refine JW.iload dX3_rowed_79 rfl ?_
    exact JW.ireturn dX3_rowed_81 rfl rfl ⟨_, rfl, K⟩
  · have K := K.2 c_1
    refine JW.aload_n dX3_rowed_45 rfl ?_
    refine JW.iload dX3_rowed_46 rfl ?_
    refine JW.iload dX3_rowed_48 rfl ?_
    refine JW.iload dX3_rowed_50 rfl ?_
    obtain ⟨o_2, K⟩ := K
    refine JW.idiv dX3_rowed_52 o_2 ?_
    refine JW.iconst dX3_rowed_53 rfl ?_
    obtain ⟨o_3, K⟩ := K
    refine JW.mcall (As := [vI x4, vI (i32 (Int.tdiv x6 x5)), vI (-1)]) dX3_rowed_54 vX3_does rfl q1822 (ctX3_does b (sS (sA (sA s 11 f11) 12 f12) 25 k25) x4 (i32 (Int.tdiv x6 x5)) (-1) o_3) (Nat.le_of_ble_eq_true rfl) rfl (Nat.le_of_ble_eq_true rfl) ?_
    rintro _ _ ⟨f_4, f_5, rfl, rfl⟩
    refine JW.steq (s2 := sS (sA (sA s 11 f_4) 12 f_5) 25 (wkp k25 x4 (i32 (Int.tdiv x6 x5)))) (by simp only [sA_A, sS_S, sA_S, sA_lt, sS_lt, Nat.reduceLT, id_eq] <;> rfl) ?_
    replace K := K f_4 f_5
    refine JW.istore (ls' := [(0, vR 351), (2, vI x2), (4, vI (wdo (s.2 6) k25 x4 (i32 (Int.tdiv x6 x5)) ((-1) : Int))), (5, vI x5), (6, vI x6), (7, vI x7)]) dX3_rowed_57 (Nat.le_of_ble_eq_true rfl) rfl ?_
    refine JW.iload dX3_rowed_59 rfl ?_
    refine JW.iload dX3_rowed_61 rfl ?_
    refine JW.irem dX3_rowed_63 o_2 ?_
    refine JW.istore (ls' := [(0, vR 351), (2, vI x2), (4, vI (wdo (s.2 6) k25 x4 (i32 (Int.tdiv x6 x5)) ((-1) : Int))), (5, vI x5), (6, vI (i32 (Int.tmod x6 x5))), (7, vI x7)]) dX3_rowed_64 (Nat.le_of_ble_eq_true rfl) rfl ?_
    refine JW.iload dX3_rowed_66 rfl ?_
    refine JW.bipush dX3_rowed_68 rfl ?_
    refine JW.idiv dX3_rowed_70 (by decide) ?_
    refine JW.istore (ls' := [(0, vR 351), (2, vI x2), (4, vI (wdo (s.2 6) k25 x4 (i32 (Int.tdiv x6 x5)) ((-1) : Int))), (5, vI (i32 (Int.tdiv x5 12))), (6, vI (i32 (Int.tmod x6 x5))), (7, vI x7)]) dX3_rowed_71 (Nat.le_of_ble_eq_true rfl) rfl ?_
    refine JW.iinc (ls' := [(0, vR 351), (2, vI x2), (4, vI (wdo (s.2 6) k25 x4 (i32 (Int.tdiv x6 x5)) ((-1) : Int))), (5, vI (i32 (Int.tdiv x5 12))), (6, vI (i32 (Int.tmod x6 x5))), (7, vI (i32 (x7 + 1)))]) dX3_rowed_73 (Nat.le_of_ble_eq_true rfl) rfl rfl ?_
    refine JW.goto (tgt := 39) dX3_rowed_76 rfl ?_
    exact JW.pick [0, 2, 4, 5, 6, 7] rfl K
def QX3_rowed (s : MS) (a1 : Int) (a2 : Int) (a3 : Int) : Option AV → MS → Prop := fun v s' => ∃ (f11 : Int → Int) (f12 : Int → Int) (k25 : Int), v = some (vI (rowV (s.2 6) a1 a2 a3)) ∧ s' = sS (sA (sA s 11 f11) 12 f12) 25 k25
theorem vX3_rowed_1 (s : MS) (a1 : Int) (a2 : Int) (a3 : Int) (hp : tOK (s.2 6) ∧ (0 ≤ a1 ∧ a1 < (s.2 6) 2) ∧ (0 ≤ a2 ∧ a2 ≤ 3) ∧ 0 ≤ a3 ∧ a3 < 12 ^ (a2).toNat) (x2 : Int) (x3 : Int) (x4 : Int) (x5 : Int) (x6 : Int) (f11 : Int → Int) (f12 : Int → Int) (k25 : Int) (hI : x2 = a2 ∧ x3 = a3 ∧ (1 ≤ x6 ∧ (x6 ≤ a2 ∨ x6 = 1)) ∧ x4 = a1 ∧ k25 = a1 ∧ x5 = 12 ^ (x6 - 1).toNat) (c_1 : x2 ≤ x6) : x2 = a2 ∧ (0 ≤ (0 : Int) ∧ (0 : Int) ≤ a2) ∧ x3 = a3 % 12 ^ (a2 - (0 : Int)).toNat ∧ ((0 : Int) < a2 → x5 = 12 ^ (a2 - 1 - (0 : Int)).toNat) ∧ x4 = (thrS (s.2 6) (rowA a2 a3) a1 (0 : Int).toNat).2 ∧ k25 = (thrS (s.2 6) (rowA a2 a3) a1 (0 : Int).toNat).1 := by
  obtain ⟨ht, h1, h2, h3, h4⟩ := hp
  have hN := tOK_N ht
  (try have b := thrS_b (a := rowA a2 a3) h1 x7.toNat)
  (try (rw [← hI.2.2.2.2.1, ← hI.2.2.2.2.2] at b))
  (try have hst := thrS_s (s.2 6) (rowA a2 a3) a1 hI.2.1.1)
  (try have hby := row_by (j := x6 - 1) (by omega) (by omega))
  (try have hat := rowA_at a2 a3 x7)
  (try have hdg := row_dig (r := a3) (j := a2 - 1 - x7) h3 (by omega) (by omega))
  (try have hbz := row_by (j := a2 - 1 - x7) (by omega) (by omega))
  (try (have e5 := hI.2.2.2.1 (by omega); have e6 := hI.2.2.1; rw [show a2 - x7 = a2 - 1 - x7 + 1 by omega] at e6; rw [← e5, ← e6] at hdg; rw [← e5] at hat hbz; rw [hat.1, hat.2] at hst))
  (try unfold lex3)
  (try simp only [bI_0, bI_n, Classical.not_not] at *)
  (try simp (disch := omega) only [i32_id] at *)
  first | done | omega | ((repeat' (with_reducible apply And.intro)) <;> first | assumption | rfl | omega | (rw [show a2 - 0 = a2 by omega, Int.emod_eq_of_lt h3 h4]; exact hI.2.1) | (intro hz; rw [hI.2.2.2.2.2, show x6 - 1 = a2 - 1 - 0 by omega]) | (have h9 := hby.2.1; rw [← hI.2.2.2.2.2, show x6 - 1 + 1 = x6 + 1 - 1 by omega] at h9; exact h9) | (exact hI.2.2.2.1) | (exact hI.2.2.2.2.1) | (unfold rowV; rw [hI.2.2.2.2.1, show x7 = a2 by omega]) | (exact hdg.2.2) | (rw [hdg.1]; exact ⟨by omega, Or.inl ⟨by omega, rfl⟩⟩) | (rw [hdg.2.1, show a2 - (x7 + 1) = a2 - 1 - x7 by omega, hI.2.2.2.1 (by omega)]) | (intro hz; rw [hbz.1 (by omega), show a2 - 1 - (x7 + 1) = a2 - 1 - x7 - 1 by omega]) | (rw [hdg.1, hst, hI.2.2.2.2.1, hI.2.2.2.2.2]) | (rfl) | grind [upI])
theorem vX3_rowed_2 (s : MS) (a1 : Int) (a2 : Int) (a3 : Int) (hp : tOK (s.2 6) ∧ (0 ≤ a1 ∧ a1 < (s.2 6) 2) ∧ (0 ≤ a2 ∧ a2 ≤ 3) ∧ 0 ≤ a3 ∧ a3 < 12 ^ (a2).toNat) (x2 : Int) (x3 : Int) (x4 : Int) (x5 : Int) (x6 : Int) (f11 : Int → Int) (f12 : Int → Int) (k25 : Int) (hI : x2 = a2 ∧ x3 = a3 ∧ (1 ≤ x6 ∧ (x6 ≤ a2 ∨ x6 = 1)) ∧ x4 = a1 ∧ k25 = a1 ∧ x5 = 12 ^ (x6 - 1).toNat) (c_1 : x2 ≤ x6) : lex3 0 0 ((a2 - (0 : Int)).toNat) 0 1 ((a2 - x6).toNat) := by
  obtain ⟨ht, h1, h2, h3, h4⟩ := hp
  have hN := tOK_N ht
  (try have b := thrS_b (a := rowA a2 a3) h1 x7.toNat)
  (try (rw [← hI.2.2.2.2.1, ← hI.2.2.2.2.2] at b))
  (try have hst := thrS_s (s.2 6) (rowA a2 a3) a1 hI.2.1.1)
  (try have hby := row_by (j := x6 - 1) (by omega) (by omega))
  (try have hat := rowA_at a2 a3 x7)
  (try have hdg := row_dig (r := a3) (j := a2 - 1 - x7) h3 (by omega) (by omega))
  (try have hbz := row_by (j := a2 - 1 - x7) (by omega) (by omega))
  (try (have e5 := hI.2.2.2.1 (by omega); have e6 := hI.2.2.1; rw [show a2 - x7 = a2 - 1 - x7 + 1 by omega] at e6; rw [← e5, ← e6] at hdg; rw [← e5] at hat hbz; rw [hat.1, hat.2] at hst))
  (try unfold lex3)
  (try simp only [bI_0, bI_n, Classical.not_not] at *)
  (try simp (disch := omega) only [i32_id] at *)
  first | done | omega | ((repeat' (with_reducible apply And.intro)) <;> first | assumption | rfl | omega | (rw [show a2 - 0 = a2 by omega, Int.emod_eq_of_lt h3 h4]; exact hI.2.1) | (intro hz; rw [hI.2.2.2.2.2, show x6 - 1 = a2 - 1 - 0 by omega]) | (have h9 := hby.2.1; rw [← hI.2.2.2.2.2, show x6 - 1 + 1 = x6 + 1 - 1 by omega] at h9; exact h9) | (exact hI.2.2.2.1) | (exact hI.2.2.2.2.1) | (unfold rowV; rw [hI.2.2.2.2.1, show x7 = a2 by omega]) | (exact hdg.2.2) | (rw [hdg.1]; exact ⟨by omega, Or.inl ⟨by omega, rfl⟩⟩) | (rw [hdg.2.1, show a2 - (x7 + 1) = a2 - 1 - x7 by omega, hI.2.2.2.1 (by omega)]) | (intro hz; rw [hbz.1 (by omega), show a2 - 1 - (x7 + 1) = a2 - 1 - x7 - 1 by omega]) | (rw [hdg.1, hst, hI.2.2.2.2.1, hI.2.2.2.2.2]) | (rfl) | grind [upI])
theorem vX3_rowed_3 (s : MS) (a1 : Int) (a2 : Int) (a3 : Int) (hp : tOK (s.2 6) ∧ (0 ≤ a1 ∧ a1 < (s.2 6) 2) ∧ (0 ≤ a2 ∧ a2 ≤ 3) ∧ 0 ≤ a3 ∧ a3 < 12 ^ (a2).toNat) (x2 : Int) (x3 : Int) (x4 : Int) (x5 : Int) (x6 : Int) (f11 : Int → Int) (f12 : Int → Int) (k25 : Int) (hI : x2 = a2 ∧ x3 = a3 ∧ (1 ≤ x6 ∧ (x6 ≤ a2 ∨ x6 = 1)) ∧ x4 = a1 ∧ k25 = a1 ∧ x5 = 12 ^ (x6 - 1).toNat) (c_1 : ¬ x2 ≤ x6) : x2 = a2 ∧ x3 = a3 ∧ (1 ≤ (i32 (x6 + 1)) ∧ ((i32 (x6 + 1)) ≤ a2 ∨ (i32 (x6 + 1)) = 1)) ∧ x4 = a1 ∧ k25 = a1 ∧ (i32 (x5 * 12)) = 12 ^ ((i32 (x6 + 1)) - 1).toNat := by
  obtain ⟨ht, h1, h2, h3, h4⟩ := hp
  have hN := tOK_N ht
  (try have b := thrS_b (a := rowA a2 a3) h1 x7.toNat)
  (try (rw [← hI.2.2.2.2.1, ← hI.2.2.2.2.2] at b))
  (try have hst := thrS_s (s.2 6) (rowA a2 a3) a1 hI.2.1.1)
  (try have hby := row_by (j := x6 - 1) (by omega) (by omega))
  (try have hat := rowA_at a2 a3 x7)
  (try have hdg := row_dig (r := a3) (j := a2 - 1 - x7) h3 (by omega) (by omega))
  (try have hbz := row_by (j := a2 - 1 - x7) (by omega) (by omega))
  (try (have e5 := hI.2.2.2.1 (by omega); have e6 := hI.2.2.1; rw [show a2 - x7 = a2 - 1 - x7 + 1 by omega] at e6; rw [← e5, ← e6] at hdg; rw [← e5] at hat hbz; rw [hat.1, hat.2] at hst))
  (try unfold lex3)
  (try simp only [bI_0, bI_n, Classical.not_not] at *)
  (try simp (disch := omega) only [i32_id] at *)
  first | done | omega | ((repeat' (with_reducible apply And.intro)) <;> first | assumption | rfl | omega | (rw [show a2 - 0 = a2 by omega, Int.emod_eq_of_lt h3 h4]; exact hI.2.1) | (intro hz; rw [hI.2.2.2.2.2, show x6 - 1 = a2 - 1 - 0 by omega]) | (have h9 := hby.2.1; rw [← hI.2.2.2.2.2, show x6 - 1 + 1 = x6 + 1 - 1 by omega] at h9; exact h9) | (exact hI.2.2.2.1) | (exact hI.2.2.2.2.1) | (unfold rowV; rw [hI.2.2.2.2.1, show x7 = a2 by omega]) | (exact hdg.2.2) | (rw [hdg.1]; exact ⟨by omega, Or.inl ⟨by omega, rfl⟩⟩) | (rw [hdg.2.1, show a2 - (x7 + 1) = a2 - 1 - x7 by omega, hI.2.2.2.1 (by omega)]) | (intro hz; rw [hbz.1 (by omega), show a2 - 1 - (x7 + 1) = a2 - 1 - x7 - 1 by omega]) | (rw [hdg.1, hst, hI.2.2.2.2.1, hI.2.2.2.2.2]) | (rfl) | grind [upI])
theorem vX3_rowed_4 (s : MS) (a1 : Int) (a2 : Int) (a3 : Int) (hp : tOK (s.2 6) ∧ (0 ≤ a1 ∧ a1 < (s.2 6) 2) ∧ (0 ≤ a2 ∧ a2 ≤ 3) ∧ 0 ≤ a3 ∧ a3 < 12 ^ (a2).toNat) (x2 : Int) (x3 : Int) (x4 : Int) (x5 : Int) (x6 : Int) (f11 : Int → Int) (f12 : Int → Int) (k25 : Int) (hI : x2 = a2 ∧ x3 = a3 ∧ (1 ≤ x6 ∧ (x6 ≤ a2 ∨ x6 = 1)) ∧ x4 = a1 ∧ k25 = a1 ∧ x5 = 12 ^ (x6 - 1).toNat) (c_1 : ¬ x2 ≤ x6) : lex3 0 1 ((a2 - (i32 (x6 + 1))).toNat) 0 1 ((a2 - x6).toNat) := by
  obtain ⟨ht, h1, h2, h3, h4⟩ := hp
  have hN := tOK_N ht
  (try have b := thrS_b (a := rowA a2 a3) h1 x7.toNat)
  (try (rw [← hI.2.2.2.2.1, ← hI.2.2.2.2.2] at b))
  (try have hst := thrS_s (s.2 6) (rowA a2 a3) a1 hI.2.1.1)
  (try have hby := row_by (j := x6 - 1) (by omega) (by omega))
  (try have hat := rowA_at a2 a3 x7)
  (try have hdg := row_dig (r := a3) (j := a2 - 1 - x7) h3 (by omega) (by omega))
  (try have hbz := row_by (j := a2 - 1 - x7) (by omega) (by omega))
  (try (have e5 := hI.2.2.2.1 (by omega); have e6 := hI.2.2.1; rw [show a2 - x7 = a2 - 1 - x7 + 1 by omega] at e6; rw [← e5, ← e6] at hdg; rw [← e5] at hat hbz; rw [hat.1, hat.2] at hst))
  (try unfold lex3)
  (try simp only [bI_0, bI_n, Classical.not_not] at *)
  (try simp (disch := omega) only [i32_id] at *)
  first | done | omega | ((repeat' (with_reducible apply And.intro)) <;> first | assumption | rfl | omega | (rw [show a2 - 0 = a2 by omega, Int.emod_eq_of_lt h3 h4]; exact hI.2.1) | (intro hz; rw [hI.2.2.2.2.2, show x6 - 1 = a2 - 1 - 0 by omega]) | (have h9 := hby.2.1; rw [← hI.2.2.2.2.2, show x6 - 1 + 1 = x6 + 1 - 1 by omega] at h9; exact h9) | (exact hI.2.2.2.1) | (exact hI.2.2.2.2.1) | (unfold rowV; rw [hI.2.2.2.2.1, show x7 = a2 by omega]) | (exact hdg.2.2) | (rw [hdg.1]; exact ⟨by omega, Or.inl ⟨by omega, rfl⟩⟩) | (rw [hdg.2.1, show a2 - (x7 + 1) = a2 - 1 - x7 by omega, hI.2.2.2.1 (by omega)]) | (intro hz; rw [hbz.1 (by omega), show a2 - 1 - (x7 + 1) = a2 - 1 - x7 - 1 by omega]) | (rw [hdg.1, hst, hI.2.2.2.2.1, hI.2.2.2.2.2]) | (rfl) | grind [upI])
theorem vX3_rowed_5 (s : MS) (a1 : Int) (a2 : Int) (a3 : Int) (hp : tOK (s.2 6) ∧ (0 ≤ a1 ∧ a1 < (s.2 6) 2) ∧ (0 ≤ a2 ∧ a2 ≤ 3) ∧ 0 ≤ a3 ∧ a3 < 12 ^ (a2).toNat) (x2 : Int) (x4 : Int) (x5 : Int) (x6 : Int) (x7 : Int) (f11 : Int → Int) (f12 : Int → Int) (k25 : Int) (hI : x2 = a2 ∧ (0 ≤ x7 ∧ x7 ≤ a2) ∧ x6 = a3 % 12 ^ (a2 - x7).toNat ∧ (x7 < a2 → x5 = 12 ^ (a2 - 1 - x7).toNat) ∧ x4 = (thrS (s.2 6) (rowA a2 a3) a1 x7.toNat).2 ∧ k25 = (thrS (s.2 6) (rowA a2 a3) a1 x7.toNat).1) (c_1 : x2 ≤ x7) : x4 = (rowV (s.2 6) a1 a2 a3) := by
  obtain ⟨ht, h1, h2, h3, h4⟩ := hp
  have hN := tOK_N ht
  (try have b := thrS_b (a := rowA a2 a3) h1 x7.toNat)
  (try (rw [← hI.2.2.2.2.1, ← hI.2.2.2.2.2] at b))
  (try have hst := thrS_s (s.2 6) (rowA a2 a3) a1 hI.2.1.1)
  (try have hby := row_by (j := x6 - 1) (by omega) (by omega))
  (try have hat := rowA_at a2 a3 x7)
  (try have hdg := row_dig (r := a3) (j := a2 - 1 - x7) h3 (by omega) (by omega))
  (try have hbz := row_by (j := a2 - 1 - x7) (by omega) (by omega))
  (try (have e5 := hI.2.2.2.1 (by omega); have e6 := hI.2.2.1; rw [show a2 - x7 = a2 - 1 - x7 + 1 by omega] at e6; rw [← e5, ← e6] at hdg; rw [← e5] at hat hbz; rw [hat.1, hat.2] at hst))
  (try unfold lex3)
  (try simp only [bI_0, bI_n, Classical.not_not] at *)
  (try simp (disch := omega) only [i32_id] at *)
  first | done | omega | ((repeat' (with_reducible apply And.intro)) <;> first | assumption | rfl | omega | (rw [show a2 - 0 = a2 by omega, Int.emod_eq_of_lt h3 h4]; exact hI.2.1) | (intro hz; rw [hI.2.2.2.2.2, show x6 - 1 = a2 - 1 - 0 by omega]) | (have h9 := hby.2.1; rw [← hI.2.2.2.2.2, show x6 - 1 + 1 = x6 + 1 - 1 by omega] at h9; exact h9) | (exact hI.2.2.2.1) | (exact hI.2.2.2.2.1) | (unfold rowV; rw [hI.2.2.2.2.1, show x7 = a2 by omega]) | (exact hdg.2.2) | (rw [hdg.1]; exact ⟨by omega, Or.inl ⟨by omega, rfl⟩⟩) | (rw [hdg.2.1, show a2 - (x7 + 1) = a2 - 1 - x7 by omega, hI.2.2.2.1 (by omega)]) | (intro hz; rw [hbz.1 (by omega), show a2 - 1 - (x7 + 1) = a2 - 1 - x7 - 1 by omega]) | (rw [hdg.1, hst, hI.2.2.2.2.1, hI.2.2.2.2.2]) | (rfl) | grind [upI])
theorem vX3_rowed_6 (s : MS) (a1 : Int) (a2 : Int) (a3 : Int) (hp : tOK (s.2 6) ∧ (0 ≤ a1 ∧ a1 < (s.2 6) 2) ∧ (0 ≤ a2 ∧ a2 ≤ 3) ∧ 0 ≤ a3 ∧ a3 < 12 ^ (a2).toNat) (x2 : Int) (x4 : Int) (x5 : Int) (x6 : Int) (x7 : Int) (f11 : Int → Int) (f12 : Int → Int) (k25 : Int) (hI : x2 = a2 ∧ (0 ≤ x7 ∧ x7 ≤ a2) ∧ x6 = a3 % 12 ^ (a2 - x7).toNat ∧ (x7 < a2 → x5 = 12 ^ (a2 - 1 - x7).toNat) ∧ x4 = (thrS (s.2 6) (rowA a2 a3) a1 x7.toNat).2 ∧ k25 = (thrS (s.2 6) (rowA a2 a3) a1 x7.toNat).1) (c_1 : ¬ x2 ≤ x7) : x5 ≠ 0 := by
  obtain ⟨ht, h1, h2, h3, h4⟩ := hp
  have hN := tOK_N ht
  (try have b := thrS_b (a := rowA a2 a3) h1 x7.toNat)
  (try (rw [← hI.2.2.2.2.1, ← hI.2.2.2.2.2] at b))
  (try have hst := thrS_s (s.2 6) (rowA a2 a3) a1 hI.2.1.1)
  (try have hby := row_by (j := x6 - 1) (by omega) (by omega))
  (try have hat := rowA_at a2 a3 x7)
  (try have hdg := row_dig (r := a3) (j := a2 - 1 - x7) h3 (by omega) (by omega))
  (try have hbz := row_by (j := a2 - 1 - x7) (by omega) (by omega))
  (try (have e5 := hI.2.2.2.1 (by omega); have e6 := hI.2.2.1; rw [show a2 - x7 = a2 - 1 - x7 + 1 by omega] at e6; rw [← e5, ← e6] at hdg; rw [← e5] at hat hbz; rw [hat.1, hat.2] at hst))
  (try unfold lex3)
  (try simp only [bI_0, bI_n, Classical.not_not] at *)
  (try simp (disch := omega) only [i32_id] at *)
  first | done | omega | ((repeat' (with_reducible apply And.intro)) <;> first | assumption | rfl | omega | (rw [show a2 - 0 = a2 by omega, Int.emod_eq_of_lt h3 h4]; exact hI.2.1) | (intro hz; rw [hI.2.2.2.2.2, show x6 - 1 = a2 - 1 - 0 by omega]) | (have h9 := hby.2.1; rw [← hI.2.2.2.2.2, show x6 - 1 + 1 = x6 + 1 - 1 by omega] at h9; exact h9) | (exact hI.2.2.2.1) | (exact hI.2.2.2.2.1) | (unfold rowV; rw [hI.2.2.2.2.1, show x7 = a2 by omega]) | (exact hdg.2.2) | (rw [hdg.1]; exact ⟨by omega, Or.inl ⟨by omega, rfl⟩⟩) | (rw [hdg.2.1, show a2 - (x7 + 1) = a2 - 1 - x7 by omega, hI.2.2.2.1 (by omega)]) | (intro hz; rw [hbz.1 (by omega), show a2 - 1 - (x7 + 1) = a2 - 1 - x7 - 1 by omega]) | (rw [hdg.1, hst, hI.2.2.2.2.1, hI.2.2.2.2.2]) | (rfl) | grind [upI])
theorem vX3_rowed_7 (s : MS) (a1 : Int) (a2 : Int) (a3 : Int) (hp : tOK (s.2 6) ∧ (0 ≤ a1 ∧ a1 < (s.2 6) 2) ∧ (0 ≤ a2 ∧ a2 ≤ 3) ∧ 0 ≤ a3 ∧ a3 < 12 ^ (a2).toNat) (x2 : Int) (x4 : Int) (x5 : Int) (x6 : Int) (x7 : Int) (f11 : Int → Int) (f12 : Int → Int) (k25 : Int) (hI : x2 = a2 ∧ (0 ≤ x7 ∧ x7 ≤ a2) ∧ x6 = a3 % 12 ^ (a2 - x7).toNat ∧ (x7 < a2 → x5 = 12 ^ (a2 - 1 - x7).toNat) ∧ x4 = (thrS (s.2 6) (rowA a2 a3) a1 x7.toNat).2 ∧ k25 = (thrS (s.2 6) (rowA a2 a3) a1 x7.toNat).1) (c_1 : ¬ x2 ≤ x7) (o_2 : x5 ≠ 0) : (tOK (s.2 6) ∧ 0 ≤ x4 ∧ x4 < (s.2 6) 2 ∧ (0 ≤ k25 ∧ k25 < (s.2 6) 2) ∧ wOK ((s.2 6) 0) (i32 (Int.tdiv x6 x5)) ((-1) : Int)) := by
  obtain ⟨ht, h1, h2, h3, h4⟩ := hp
  have hN := tOK_N ht
  (try have b := thrS_b (a := rowA a2 a3) h1 x7.toNat)
  (try (rw [← hI.2.2.2.2.1, ← hI.2.2.2.2.2] at b))
  (try have hst := thrS_s (s.2 6) (rowA a2 a3) a1 hI.2.1.1)
  (try have hby := row_by (j := x6 - 1) (by omega) (by omega))
  (try have hat := rowA_at a2 a3 x7)
  (try have hdg := row_dig (r := a3) (j := a2 - 1 - x7) h3 (by omega) (by omega))
  (try have hbz := row_by (j := a2 - 1 - x7) (by omega) (by omega))
  (try (have e5 := hI.2.2.2.1 (by omega); have e6 := hI.2.2.1; rw [show a2 - x7 = a2 - 1 - x7 + 1 by omega] at e6; rw [← e5, ← e6] at hdg; rw [← e5] at hat hbz; rw [hat.1, hat.2] at hst))
  (try unfold lex3)
  (try simp only [bI_0, bI_n, Classical.not_not] at *)
  (try simp (disch := omega) only [i32_id] at *)
  first | done | omega | ((repeat' (with_reducible apply And.intro)) <;> first | assumption | rfl | omega | (rw [show a2 - 0 = a2 by omega, Int.emod_eq_of_lt h3 h4]; exact hI.2.1) | (intro hz; rw [hI.2.2.2.2.2, show x6 - 1 = a2 - 1 - 0 by omega]) | (have h9 := hby.2.1; rw [← hI.2.2.2.2.2, show x6 - 1 + 1 = x6 + 1 - 1 by omega] at h9; exact h9) | (exact hI.2.2.2.1) | (exact hI.2.2.2.2.1) | (unfold rowV; rw [hI.2.2.2.2.1, show x7 = a2 by omega]) | (exact hdg.2.2) | (rw [hdg.1]; exact ⟨by omega, Or.inl ⟨by omega, rfl⟩⟩) | (rw [hdg.2.1, show a2 - (x7 + 1) = a2 - 1 - x7 by omega, hI.2.2.2.1 (by omega)]) | (intro hz; rw [hbz.1 (by omega), show a2 - 1 - (x7 + 1) = a2 - 1 - x7 - 1 by omega]) | (rw [hdg.1, hst, hI.2.2.2.2.1, hI.2.2.2.2.2]) | (rfl) | grind [upI])
theorem vX3_rowed_8 (s : MS) (a1 : Int) (a2 : Int) (a3 : Int) (hp : tOK (s.2 6) ∧ (0 ≤ a1 ∧ a1 < (s.2 6) 2) ∧ (0 ≤ a2 ∧ a2 ≤ 3) ∧ 0 ≤ a3 ∧ a3 < 12 ^ (a2).toNat) (x2 : Int) (x4 : Int) (x5 : Int) (x6 : Int) (x7 : Int) (f11 : Int → Int) (f12 : Int → Int) (k25 : Int) (hI : x2 = a2 ∧ (0 ≤ x7 ∧ x7 ≤ a2) ∧ x6 = a3 % 12 ^ (a2 - x7).toNat ∧ (x7 < a2 → x5 = 12 ^ (a2 - 1 - x7).toNat) ∧ x4 = (thrS (s.2 6) (rowA a2 a3) a1 x7.toNat).2 ∧ k25 = (thrS (s.2 6) (rowA a2 a3) a1 x7.toNat).1) (c_1 : ¬ x2 ≤ x7) (o_2 : x5 ≠ 0) (o_3 : (tOK (s.2 6) ∧ 0 ≤ x4 ∧ x4 < (s.2 6) 2 ∧ (0 ≤ k25 ∧ k25 < (s.2 6) 2) ∧ wOK ((s.2 6) 0) (i32 (Int.tdiv x6 x5)) ((-1) : Int))) (f_4 : Int → Int) (f_5 : Int → Int) : x2 = a2 ∧ (0 ≤ (i32 (x7 + 1)) ∧ (i32 (x7 + 1)) ≤ a2) ∧ (i32 (Int.tmod x6 x5)) = a3 % 12 ^ (a2 - (i32 (x7 + 1))).toNat ∧ ((i32 (x7 + 1)) < a2 → (i32 (Int.tdiv x5 12)) = 12 ^ (a2 - 1 - (i32 (x7 + 1))).toNat) ∧ (wdo (s.2 6) k25 x4 (i32 (Int.tdiv x6 x5)) ((-1) : Int)) = (thrS (s.2 6) (rowA a2 a3) a1 (i32 (x7 + 1)).toNat).2 ∧ (wkp k25 x4 (i32 (Int.tdiv x6 x5))) = (thrS (s.2 6) (rowA a2 a3) a1 (i32 (x7 + 1)).toNat).1 := by
  obtain ⟨ht, h1, h2, h3, h4⟩ := hp
  have hN := tOK_N ht
  (try have b := thrS_b (a := rowA a2 a3) h1 x7.toNat)
  (try (rw [← hI.2.2.2.2.1, ← hI.2.2.2.2.2] at b))
  (try have hst := thrS_s (s.2 6) (rowA a2 a3) a1 hI.2.1.1)
  (try have hby := row_by (j := x6 - 1) (by omega) (by omega))
  (try have hat := rowA_at a2 a3 x7)
  (try have hdg := row_dig (r := a3) (j := a2 - 1 - x7) h3 (by omega) (by omega))
  (try have hbz := row_by (j := a2 - 1 - x7) (by omega) (by omega))
  (try (have e5 := hI.2.2.2.1 (by omega); have e6 := hI.2.2.1; rw [show a2 - x7 = a2 - 1 - x7 + 1 by omega] at e6; rw [← e5, ← e6] at hdg; rw [← e5] at hat hbz; rw [hat.1, hat.2] at hst))
  (try unfold lex3)
  (try simp only [bI_0, bI_n, Classical.not_not] at *)
  (try simp (disch := omega) only [i32_id] at *)
  first | done | omega | ((repeat' (with_reducible apply And.intro)) <;> first | assumption | rfl | omega | (rw [show a2 - 0 = a2 by omega, Int.emod_eq_of_lt h3 h4]; exact hI.2.1) | (intro hz; rw [hI.2.2.2.2.2, show x6 - 1 = a2 - 1 - 0 by omega]) | (have h9 := hby.2.1; rw [← hI.2.2.2.2.2, show x6 - 1 + 1 = x6 + 1 - 1 by omega] at h9; exact h9) | (exact hI.2.2.2.1) | (exact hI.2.2.2.2.1) | (unfold rowV; rw [hI.2.2.2.2.1, show x7 = a2 by omega]) | (exact hdg.2.2) | (rw [hdg.1]; exact ⟨by omega, Or.inl ⟨by omega, rfl⟩⟩) | (rw [hdg.2.1, show a2 - (x7 + 1) = a2 - 1 - x7 by omega, hI.2.2.2.1 (by omega)]) | (intro hz; rw [hbz.1 (by omega), show a2 - 1 - (x7 + 1) = a2 - 1 - x7 - 1 by omega]) | (rw [hdg.1, hst, hI.2.2.2.2.1, hI.2.2.2.2.2]) | (rfl) | grind [upI])
theorem vX3_rowed_9 (s : MS) (a1 : Int) (a2 : Int) (a3 : Int) (hp : tOK (s.2 6) ∧ (0 ≤ a1 ∧ a1 < (s.2 6) 2) ∧ (0 ≤ a2 ∧ a2 ≤ 3) ∧ 0 ≤ a3 ∧ a3 < 12 ^ (a2).toNat) (x2 : Int) (x4 : Int) (x5 : Int) (x6 : Int) (x7 : Int) (f11 : Int → Int) (f12 : Int → Int) (k25 : Int) (hI : x2 = a2 ∧ (0 ≤ x7 ∧ x7 ≤ a2) ∧ x6 = a3 % 12 ^ (a2 - x7).toNat ∧ (x7 < a2 → x5 = 12 ^ (a2 - 1 - x7).toNat) ∧ x4 = (thrS (s.2 6) (rowA a2 a3) a1 x7.toNat).2 ∧ k25 = (thrS (s.2 6) (rowA a2 a3) a1 x7.toNat).1) (c_1 : ¬ x2 ≤ x7) (o_2 : x5 ≠ 0) (o_3 : (tOK (s.2 6) ∧ 0 ≤ x4 ∧ x4 < (s.2 6) 2 ∧ (0 ≤ k25 ∧ k25 < (s.2 6) 2) ∧ wOK ((s.2 6) 0) (i32 (Int.tdiv x6 x5)) ((-1) : Int))) (f_4 : Int → Int) (f_5 : Int → Int) : lex3 0 0 ((a2 - (i32 (x7 + 1))).toNat) 0 0 ((a2 - x7).toNat) := by
  obtain ⟨ht, h1, h2, h3, h4⟩ := hp
  have hN := tOK_N ht
  (try have b := thrS_b (a := rowA a2 a3) h1 x7.toNat)
  (try (rw [← hI.2.2.2.2.1, ← hI.2.2.2.2.2] at b))
  (try have hst := thrS_s (s.2 6) (rowA a2 a3) a1 hI.2.1.1)
  (try have hby := row_by (j := x6 - 1) (by omega) (by omega))
  (try have hat := rowA_at a2 a3 x7)
  (try have hdg := row_dig (r := a3) (j := a2 - 1 - x7) h3 (by omega) (by omega))
  (try have hbz := row_by (j := a2 - 1 - x7) (by omega) (by omega))
  (try (have e5 := hI.2.2.2.1 (by omega); have e6 := hI.2.2.1; rw [show a2 - x7 = a2 - 1 - x7 + 1 by omega] at e6; rw [← e5, ← e6] at hdg; rw [← e5] at hat hbz; rw [hat.1, hat.2] at hst))
  (try unfold lex3)
  (try simp only [bI_0, bI_n, Classical.not_not] at *)
  (try simp (disch := omega) only [i32_id] at *)
  first | done | omega | ((repeat' (with_reducible apply And.intro)) <;> first | assumption | rfl | omega | (rw [show a2 - 0 = a2 by omega, Int.emod_eq_of_lt h3 h4]; exact hI.2.1) | (intro hz; rw [hI.2.2.2.2.2, show x6 - 1 = a2 - 1 - 0 by omega]) | (have h9 := hby.2.1; rw [← hI.2.2.2.2.2, show x6 - 1 + 1 = x6 + 1 - 1 by omega] at h9; exact h9) | (exact hI.2.2.2.1) | (exact hI.2.2.2.2.1) | (unfold rowV; rw [hI.2.2.2.2.1, show x7 = a2 by omega]) | (exact hdg.2.2) | (rw [hdg.1]; exact ⟨by omega, Or.inl ⟨by omega, rfl⟩⟩) | (rw [hdg.2.1, show a2 - (x7 + 1) = a2 - 1 - x7 by omega, hI.2.2.2.1 (by omega)]) | (intro hz; rw [hbz.1 (by omega), show a2 - 1 - (x7 + 1) = a2 - 1 - x7 - 1 by omega]) | (rw [hdg.1, hst, hI.2.2.2.2.1, hI.2.2.2.2.2]) | (rfl) | grind [upI])
theorem vX3_rowed_10 (s : MS) (a1 : Int) (a2 : Int) (a3 : Int) (hp : tOK (s.2 6) ∧ (0 ≤ a1 ∧ a1 < (s.2 6) 2) ∧ (0 ≤ a2 ∧ a2 ≤ 3) ∧ 0 ≤ a3 ∧ a3 < 12 ^ (a2).toNat) : a2 = a2 ∧ a3 = a3 ∧ (1 ≤ (1 : Int) ∧ ((1 : Int) ≤ a2 ∨ (1 : Int) = 1)) ∧ a1 = a1 ∧ a1 = a1 ∧ (1 : Int) = 12 ^ ((1 : Int) - 1).toNat := by
  obtain ⟨ht, h1, h2, h3, h4⟩ := hp
  have hN := tOK_N ht
  (try have b := thrS_b (a := rowA a2 a3) h1 x7.toNat)
  (try (rw [← hI.2.2.2.2.1, ← hI.2.2.2.2.2] at b))
  (try have hst := thrS_s (s.2 6) (rowA a2 a3) a1 hI.2.1.1)
  (try have hby := row_by (j := x6 - 1) (by omega) (by omega))
  (try have hat := rowA_at a2 a3 x7)
  (try have hdg := row_dig (r := a3) (j := a2 - 1 - x7) h3 (by omega) (by omega))
  (try have hbz := row_by (j := a2 - 1 - x7) (by omega) (by omega))
  (try (have e5 := hI.2.2.2.1 (by omega); have e6 := hI.2.2.1; rw [show a2 - x7 = a2 - 1 - x7 + 1 by omega] at e6; rw [← e5, ← e6] at hdg; rw [← e5] at hat hbz; rw [hat.1, hat.2] at hst))
  (try unfold lex3)
  (try simp only [bI_0, bI_n, Classical.not_not] at *)
  (try simp (disch := omega) only [i32_id] at *)
  first | done | omega | ((repeat' (with_reducible apply And.intro)) <;> first | assumption | rfl | omega | (rw [show a2 - 0 = a2 by omega, Int.emod_eq_of_lt h3 h4]; exact hI.2.1) | (intro hz; rw [hI.2.2.2.2.2, show x6 - 1 = a2 - 1 - 0 by omega]) | (have h9 := hby.2.1; rw [← hI.2.2.2.2.2, show x6 - 1 + 1 = x6 + 1 - 1 by omega] at h9; exact h9) | (exact hI.2.2.2.1) | (exact hI.2.2.2.2.1) | (unfold rowV; rw [hI.2.2.2.2.1, show x7 = a2 by omega]) | (exact hdg.2.2) | (rw [hdg.1]; exact ⟨by omega, Or.inl ⟨by omega, rfl⟩⟩) | (rw [hdg.2.1, show a2 - (x7 + 1) = a2 - 1 - x7 by omega, hI.2.2.2.1 (by omega)]) | (intro hz; rw [hbz.1 (by omega), show a2 - 1 - (x7 + 1) = a2 - 1 - x7 - 1 by omega]) | (rw [hdg.1, hst, hI.2.2.2.2.1, hI.2.2.2.2.2]) | (rfl) | grind [upI])
theorem allX3_rowed (b : AH) (s : MS) (a1 : Int) (a2 : Int) (a3 : Int) (hp : tOK (s.2 6) ∧ (0 ≤ a1 ∧ a1 < (s.2 6) 2) ∧ (0 ≤ a2 ∧ a2 ≤ 3) ∧ 0 ≤ a3 ∧ a3 < 12 ^ (a2).toNat) : ∀ m1 m2 m3 : Nat, (∀ (x2 : Int) (x3 : Int) (x4 : Int) (x5 : Int) (x6 : Int) (f11 : Int → Int) (f12 : Int → Int) (k25 : Int), m1 = 0 → m2 = 1 → m3 = ((a2 - x6).toNat) → (x2 = a2 ∧ x3 = a3 ∧ (1 ≤ x6 ∧ (x6 ≤ a2 ∨ x6 = 1)) ∧ x4 = a1 ∧ k25 = a1 ∧ x5 = 12 ^ (x6 - 1).toNat) → HX3_rowed_14 (QX3_rowed s a1 a2 a3) b s x2 x3 x4 x5 x6 f11 f12 k25) ∧ (∀ (x2 : Int) (x4 : Int) (x5 : Int) (x6 : Int) (x7 : Int) (f11 : Int → Int) (f12 : Int → Int) (k25 : Int), m1 = 0 → m2 = 0 → m3 = ((a2 - x7).toNat) → (x2 = a2 ∧ (0 ≤ x7 ∧ x7 ≤ a2) ∧ x6 = a3 % 12 ^ (a2 - x7).toNat ∧ (x7 < a2 → x5 = 12 ^ (a2 - 1 - x7).toNat) ∧ x4 = (thrS (s.2 6) (rowA a2 a3) a1 x7.toNat).2 ∧ k25 = (thrS (s.2 6) (rowA a2 a3) a1 x7.toNat).1) → HX3_rowed_39 (QX3_rowed s a1 a2 a3) b s x2 x4 x5 x6 x7 f11 f12 k25) := by
  refine lex3_ind ?_
  intro m1 m2 m3 ih
  refine ⟨?_, ?_⟩
  · rintro x2 x3 x4 x5 x6 f11 f12 k25 rfl rfl rfl hI
    refine bX3_rowed_14 b s x2 x3 x4 x5 x6 f11 f12 k25 ?_
    refine ⟨fun c_1 => ?_, fun c_1 => ?_⟩
    · exact (ih _ _ _ (vX3_rowed_2 s a1 a2 a3 hp x2 x3 x4 x5 x6 f11 f12 k25 hI c_1)).2 x2 x4 x5 x3 0 f11 f12 k25 rfl rfl rfl (vX3_rowed_1 s a1 a2 a3 hp x2 x3 x4 x5 x6 f11 f12 k25 hI c_1)
    · exact (ih _ _ _ (vX3_rowed_4 s a1 a2 a3 hp x2 x3 x4 x5 x6 f11 f12 k25 hI c_1)).1 x2 x3 x4 (i32 (x5 * 12)) (i32 (x6 + 1)) f11 f12 k25 rfl rfl rfl (vX3_rowed_3 s a1 a2 a3 hp x2 x3 x4 x5 x6 f11 f12 k25 hI c_1)
  · rintro x2 x4 x5 x6 x7 f11 f12 k25 rfl rfl rfl hI
    refine bX3_rowed_39 b s x2 x4 x5 x6 x7 f11 f12 k25 ?_
    refine ⟨fun c_1 => ?_, fun c_1 => ?_⟩
    · exact ⟨f11, f12, k25, (rI_c (vX3_rowed_5 s a1 a2 a3 hp x2 x4 x5 x6 x7 f11 f12 k25 hI c_1)), rfl⟩
    · have o_2 : x5 ≠ 0 := (vX3_rowed_6 s a1 a2 a3 hp x2 x4 x5 x6 x7 f11 f12 k25 hI c_1)
      refine ⟨o_2, ?_⟩
      have o_3 : (tOK (s.2 6) ∧ 0 ≤ x4 ∧ x4 < (s.2 6) 2 ∧ (0 ≤ k25 ∧ k25 < (s.2 6) 2) ∧ wOK ((s.2 6) 0) (i32 (Int.tdiv x6 x5)) ((-1) : Int)) := (vX3_rowed_7 s a1 a2 a3 hp x2 x4 x5 x6 x7 f11 f12 k25 hI c_1 o_2)
      refine ⟨o_3, ?_⟩
      intro f_4 f_5
      exact (ih _ _ _ (vX3_rowed_9 s a1 a2 a3 hp x2 x4 x5 x6 x7 f11 f12 k25 hI c_1 o_2 o_3 f_4 f_5)).2 x2 (wdo (s.2 6) k25 x4 (i32 (Int.tdiv x6 x5)) ((-1) : Int)) (i32 (Int.tdiv x5 12)) (i32 (Int.tmod x6 x5)) (i32 (x7 + 1)) f_4 f_5 (wkp k25 x4 (i32 (Int.tdiv x6 x5))) rfl rfl rfl (vX3_rowed_8 s a1 a2 a3 hp x2 x4 x5 x6 x7 f11 f12 k25 hI c_1 o_2 o_3 f_4 f_5)
theorem ctX3_rowed (b : AH) (s : MS) (a1 : Int) (a2 : Int) (a3 : Int) (hp : tOK (s.2 6) ∧ (0 ≤ a1 ∧ a1 < (s.2 6) 2) ∧ (0 ≤ a2 ∧ a2 ≤ 3) ∧ 0 ≤ a3 ∧ a3 < 12 ^ (a2).toNat) : MC mX3_rowed 5 b s [vI a1, vI a2, vI a3] (QX3_rowed s a1 a2 a3) := by
  refine MC.of (by decide) rfl (Nat.le_of_ble_eq_true rfl) (JW.steq (s2 := sS (sA (sA s 11 (s.2 11)) 12 (s.2 12)) 25 (s.1 25)) (by simp only [sA_id, sS_id]) ?_)
  refine bX3_rowed_0 b s a1 a2 a3 (s.2 11) (s.2 12) (s.1 25) ?_
  exact (allX3_rowed b s a1 a2 a3 hp _ _ _).1 a2 a3 a1 1 1 (s.2 11) (s.2 12) a1 rfl rfl rfl (vX3_rowed_10 s a1 a2 a3 hp)
def HX3_finds_0 (Q : Option AV → MS → Prop) (b : AH) (s : MS) (x1 : Int) (x2 : Int) (f11 : Int → Int) (f12 : Int → Int) (k25 : Int) (k33 : Int) (k34 : Int) : Prop := MW mX3_finds 6 Q b 0 [(0, vR 351), (1, vI x1), (2, vI x2)] [] (sS (sS (sS (sA (sA s 11 f11) 12 f12) 25 k25) 33 k33) 34 k34)
def HX3_finds_7 (Q : Option AV → MS → Prop) (b : AH) (s : MS) (x1 : Int) (x2 : Int) (x3 : Int) (f11 : Int → Int) (f12 : Int → Int) (k25 : Int) (k33 : Int) (k34 : Int) : Prop := MW mX3_finds 6 Q b 7 [(0, vR 351), (1, vI x1), (2, vI x2), (3, vI x3)] [] (sS (sS (sS (sA (sA s 11 f11) 12 f12) 25 k25) 33 k33) 34 k34)
def HX3_finds_20 (Q : Option AV → MS → Prop) (b : AH) (s : MS) (x1 : Int) (x2 : Int) (x3 : Int) (f11 : Int → Int) (f12 : Int → Int) (k25 : Int) (k33 : Int) (k34 : Int) : Prop := MW mX3_finds 6 Q b 20 [(0, vR 351), (1, vI x1), (2, vI x2), (3, vI x3)] [] (sS (sS (sS (sA (sA s 11 f11) 12 f12) 25 k25) 33 k33) 34 k34)
theorem bX3_finds_0 {Q : Option AV → MS → Prop} (b : AH) (s : MS) (x1 : Int) (x2 : Int) (f11 : Int → Int) (f12 : Int → Int) (k25 : Int) (k33 : Int) (k34 : Int) (K : HX3_finds_7 Q b s x1 x2 1 f11 f12 k25 0 k34) : HX3_finds_0 Q b s x1 x2 f11 f12 k25 k33 k34 := by
  refine JW.iconst dX3_finds_0 rfl ?_
  refine JW.istore_n (ls' := [(0, vR 351), (1, vI x1), (2, vI x2), (3, vI 1)]) dX3_finds_1 (Nat.le_of_ble_eq_true rfl) rfl ?_
  refine JW.aload_n dX3_finds_2 rfl ?_
  refine JW.iconst dX3_finds_3 rfl ?_
  refine JW.mputI dX3_finds_4 (pX3_384 _) rfl ?_
  refine JW.steq (s2 := sS (sS (sS (sA (sA s 11 f11) 12 f12) 25 k25) 33 0) 34 k34) (by simp only [sA_A, sS_S, sA_S, sA_lt, sS_lt, Nat.reduceLT, id_eq] <;> rfl) ?_
  exact JW.pick [0, 1, 2, 3] rfl K
theorem bX3_finds_7 {Q : Option AV → MS → Prop} (b : AH) (s : MS) (x1 : Int) (x2 : Int) (x3 : Int) (f11 : Int → Int) (f12 : Int → Int) (k25 : Int) (k33 : Int) (k34 : Int) (K : (3 < k33 → Q none (sS (sS (sS (sA (sA s 11 f11) 12 f12) 25 k25) 33 (-1)) 34 k34)) ∧ (¬ 3 < k33 → HX3_finds_20 Q b s x1 x2 x3 f11 f12 k25 k33 0)) : HX3_finds_7 Q b s x1 x2 x3 f11 f12 k25 k33 k34 := by
  refine JW.aload_n dX3_finds_7 rfl ?_
  refine JW.mget (v := vI k33) dX3_finds_8 fX3_384 rfl ?_
  refine JW.iconst dX3_finds_11 rfl ?_
  refine JW.icmp_gt (tgt := 77) dX3_finds_12 rfl (fun c_1 => ?_) (fun c_1 => ?_)
  · have K := K.1 c_1
    refine JW.aload_n dX3_finds_77 rfl ?_
    refine JW.iconst dX3_finds_78 rfl ?_
    refine JW.mputI dX3_finds_79 (pX3_384 _) rfl ?_
    refine JW.steq (s2 := sS (sS (sS (sA (sA s 11 f11) 12 f12) 25 k25) 33 (-1)) 34 k34) (by simp only [sA_A, sS_S, sA_S, sA_lt, sS_lt, Nat.reduceLT, id_eq] <;> rfl) ?_
    exact JW.vreturn dX3_finds_82 rfl ⟨_, rfl, K⟩
  · have K := K.2 c_1
    refine JW.aload_n dX3_finds_15 rfl ?_
    refine JW.iconst dX3_finds_16 rfl ?_
    refine JW.mputI dX3_finds_17 (pX3_387 _) rfl ?_
    refine JW.steq (s2 := sS (sS (sS (sA (sA s 11 f11) 12 f12) 25 k25) 33 k33) 34 0) (by simp only [sA_A, sS_S, sA_S, sA_lt, sS_lt, Nat.reduceLT, id_eq] <;> rfl) ?_
    exact JW.pick [0, 1, 2, 3] rfl K
theorem bX3_finds_20 {Q : Option AV → MS → Prop} (b : AH) (s : MS) (x1 : Int) (x2 : Int) (x3 : Int) (f11 : Int → Int) (f12 : Int → Int) (k25 : Int) (k33 : Int) (k34 : Int) (K : (x3 ≤ k34 → HX3_finds_7 Q b s x1 x2 (i32 (x3 * 12)) f11 f12 k25 (i32 (k33 + 1)) k34) ∧ (¬ x3 ≤ k34 → (tOK (s.2 6) ∧ (0 ≤ x1 ∧ x1 < (s.2 6) 2) ∧ (0 ≤ k33 ∧ k33 ≤ 3) ∧ 0 ≤ k34 ∧ k34 < 12 ^ (k33).toNat) ∧ ((∀ (f_3 : Int → Int) (f_4 : Int → Int) (k_5 : Int), (¬ (rowV (s.2 6) x1 k33 k34) = x2 → HX3_finds_20 Q b s x1 x2 x3 f_3 f_4 k_5 k33 (i32 (k34 + 1))) ∧ ((rowV (s.2 6) x1 k33 k34) = x2 → Q none (sS (sS (sS (sA (sA s 11 f_3) 12 f_4) 25 k_5) 33 k33) 34 k34)))))) : HX3_finds_20 Q b s x1 x2 x3 f11 f12 k25 k33 k34 := by
  refine JW.aload_n dX3_finds_20 rfl ?_
  refine JW.mget (v := vI k34) dX3_finds_21 fX3_387 rfl ?_
  refine JW.iload_n dX3_finds_24 rfl ?_
  refine JW.icmp_ge (tgt := 59) dX3_finds_25 rfl (fun c_1 => ?_) (fun c_1 => ?_)
  · have K := K.1 c_1
    refine JW.iload_n dX3_finds_59 rfl ?_
    refine JW.bipush dX3_finds_60 rfl ?_
    refine JW.imul dX3_finds_62 ?_
    refine JW.istore_n (ls' := [(0, vR 351), (1, vI x1), (2, vI x2), (3, vI (i32 (x3 * 12)))]) dX3_finds_63 (Nat.le_of_ble_eq_true rfl) rfl ?_
    refine JW.aload_n dX3_finds_64 rfl ?_
    refine JW.dup dX3_finds_65 rfl ?_
    refine JW.mget (v := vI k33) dX3_finds_66 fX3_384 rfl ?_
    refine JW.iconst dX3_finds_69 rfl ?_
    refine JW.iadd dX3_finds_70 ?_
    refine JW.mputI dX3_finds_71 (pX3_384 _) rfl ?_
    refine JW.steq (s2 := sS (sS (sS (sA (sA s 11 f11) 12 f12) 25 k25) 33 (i32 (k33 + 1))) 34 k34) (by simp only [sA_A, sS_S, sA_S, sA_lt, sS_lt, Nat.reduceLT, id_eq] <;> rfl) ?_
    refine JW.goto (tgt := 7) dX3_finds_74 rfl ?_
    exact JW.pick [0, 1, 2, 3] rfl K
  · have K := K.2 c_1
    refine JW.aload_n dX3_finds_28 rfl ?_
    refine JW.iload_n dX3_finds_29 rfl ?_
    refine JW.aload_n dX3_finds_30 rfl ?_
    refine JW.mget (v := vI k33) dX3_finds_31 fX3_384 rfl ?_
    refine JW.aload_n dX3_finds_34 rfl ?_
    refine JW.mget (v := vI k34) dX3_finds_35 fX3_387 rfl ?_
    obtain ⟨o_2, K⟩ := K
    refine JW.mcall (As := [vI x1, vI k33, vI k34]) dX3_finds_38 vX3_rowed rfl q2061 (ctX3_rowed b (sS (sS (sS (sA (sA s 11 f11) 12 f12) 25 k25) 33 k33) 34 k34) x1 k33 k34 o_2) (Nat.le_of_ble_eq_true rfl) rfl (Nat.le_of_ble_eq_true rfl) ?_
    rintro _ _ ⟨f_3, f_4, k_5, rfl, rfl⟩
    refine JW.steq (s2 := sS (sS (sS (sA (sA s 11 f_3) 12 f_4) 25 k_5) 33 k33) 34 k34) (by simp only [sA_A, sS_S, sA_S, sA_lt, sS_lt, Nat.reduceLT, id_eq] <;> rfl) ?_
    replace K := K f_3 f_4 k_5
    refine JW.iload_n dX3_finds_41 rfl ?_
    refine JW.icmp_ne (tgt := 46) dX3_finds_42 rfl (fun c_7 => ?_) (fun c_7 => ?_)
    · have K := K.1 c_7
      refine JW.aload_n dX3_finds_46 rfl ?_
      refine JW.dup dX3_finds_47 rfl ?_
      refine JW.mget (v := vI k34) dX3_finds_48 fX3_387 rfl ?_
      refine JW.iconst dX3_finds_51 rfl ?_
      refine JW.iadd dX3_finds_52 ?_
      refine JW.mputI dX3_finds_53 (pX3_387 _) rfl ?_
      refine JW.steq (s2 := sS (sS (sS (sA (sA s 11 f_3) 12 f_4) 25 k_5) 33 k33) 34 (i32 (k34 + 1))) (by simp only [sA_A, sS_S, sA_S, sA_lt, sS_lt, Nat.reduceLT, id_eq] <;> rfl) ?_
      refine JW.goto (tgt := 20) dX3_finds_56 rfl ?_
      exact JW.pick [0, 1, 2, 3] rfl K
    · have K := K.2 c_7
      exact JW.vreturn dX3_finds_45 rfl ⟨_, rfl, K⟩
def QX3_finds (s : MS) (a1 : Int) (a2 : Int) : Option AV → MS → Prop := fun v s' => ∃ (f11 : Int → Int) (f12 : Int → Int) (k25 : Int) (k34 : Int), v = none ∧ s' = sS (sS (sS (sA (sA s 11 f11) 12 f12) 25 k25) 33 (fndM (s.2 6) a1 a2)) 34 k34 ∧ ((fndM (s.2 6) a1 a2 ≠ -1 → k34 = fndR (s.2 6) a1 a2 ∧ 0 ≤ k34 ∧ k34 < 12 ^ (fndM (s.2 6) a1 a2).toNat))
theorem vX3_finds_1 (s : MS) (a1 : Int) (a2 : Int) (hp : tOK (s.2 6) ∧ (0 ≤ a1 ∧ a1 < (s.2 6) 2)) (x1 : Int) (x2 : Int) (x3 : Int) (f11 : Int → Int) (f12 : Int → Int) (k25 : Int) (k33 : Int) (k34 : Int) (hI : x1 = a1 ∧ x2 = a2 ∧ (0 ≤ k33 ∧ k33 ≤ 4) ∧ x3 = 12 ^ k33.toNat ∧ ∀ m : Int, 0 ≤ m → m < k33 → ¬ hasRow (s.2 6) a1 a2 m) (c_1 : 3 < k33) : (-1) = (fndM (s.2 6) a1 a2) := by
  obtain ⟨ht, h1⟩ := hp
  have hN := tOK_N ht
  (try have hby := row_by3 (j := k33) (by omega) (by omega))
  (try unfold lex3)
  (try simp only [bI_0, bI_n, Classical.not_not] at *)
  (try simp (disch := omega) only [i32_id] at *)
  first | done | omega | ((repeat' (with_reducible apply And.intro)) <;> first | assumption | rfl | omega | (intro m h5 h6; omega) | (exact (fndM_no (fun m h5 h6 => hI.2.2.2.2 m h5 (by omega))).symm) | (intro h9; exact absurd (fndM_no (fun m h5 h6 => hI.2.2.2.2 m h5 (by omega))) h9) | (exact hI.2.2.2.2) | (exact hI.2.2.2.2.1) | (rw [hI.2.2.2.1]; exact hby.1) | (intro m h5 h6; by_cases e : m = k33; (focus (rw [e]; exact fun ⟨r, q, w⟩ => hI.2.2.2.2.2.2 r q.1 (by have := q.2; omega) w)); (focus (exact hI.2.2.2.2.1 m h5 (by omega)))) | (intro r h5 h6; by_cases e : r = k34; (focus (rw [e, ← hI.1, ← hI.2.1]; assumption)); (focus (exact hI.2.2.2.2.2.2 r h5 (by omega)))) | (have e1 := hI.1; rw [e1, hI.2.1] at c_7; exact (fndM_at (by omega) (by omega) ⟨k34, ⟨by omega, by omega⟩, c_7⟩ hI.2.2.2.2.1).symm) | (intro _; have e1 := hI.1; rw [e1, hI.2.1] at c_7; have e3 := fndM_at (by omega) (by omega) ⟨k34, ⟨by omega, by omega⟩, c_7⟩ hI.2.2.2.2.1; have e4 := fndR_at e3 (by omega) (by omega) c_7 hI.2.2.2.2.2.2; rw [e3, e4]; exact ⟨rfl, by omega, by omega⟩) | grind [upI])
theorem vX3_finds_2 (s : MS) (a1 : Int) (a2 : Int) (hp : tOK (s.2 6) ∧ (0 ≤ a1 ∧ a1 < (s.2 6) 2)) (x1 : Int) (x2 : Int) (x3 : Int) (f11 : Int → Int) (f12 : Int → Int) (k25 : Int) (k33 : Int) (k34 : Int) (hI : x1 = a1 ∧ x2 = a2 ∧ (0 ≤ k33 ∧ k33 ≤ 4) ∧ x3 = 12 ^ k33.toNat ∧ ∀ m : Int, 0 ≤ m → m < k33 → ¬ hasRow (s.2 6) a1 a2 m) (c_1 : 3 < k33) : (fndM (s.2 6) a1 a2 ≠ -1 → k34 = fndR (s.2 6) a1 a2 ∧ 0 ≤ k34 ∧ k34 < 12 ^ (fndM (s.2 6) a1 a2).toNat) := by
  obtain ⟨ht, h1⟩ := hp
  have hN := tOK_N ht
  (try have hby := row_by3 (j := k33) (by omega) (by omega))
  (try unfold lex3)
  (try simp only [bI_0, bI_n, Classical.not_not] at *)
  (try simp (disch := omega) only [i32_id] at *)
  first | done | omega | ((repeat' (with_reducible apply And.intro)) <;> first | assumption | rfl | omega | (intro m h5 h6; omega) | (exact (fndM_no (fun m h5 h6 => hI.2.2.2.2 m h5 (by omega))).symm) | (intro h9; exact absurd (fndM_no (fun m h5 h6 => hI.2.2.2.2 m h5 (by omega))) h9) | (exact hI.2.2.2.2) | (exact hI.2.2.2.2.1) | (rw [hI.2.2.2.1]; exact hby.1) | (intro m h5 h6; by_cases e : m = k33; (focus (rw [e]; exact fun ⟨r, q, w⟩ => hI.2.2.2.2.2.2 r q.1 (by have := q.2; omega) w)); (focus (exact hI.2.2.2.2.1 m h5 (by omega)))) | (intro r h5 h6; by_cases e : r = k34; (focus (rw [e, ← hI.1, ← hI.2.1]; assumption)); (focus (exact hI.2.2.2.2.2.2 r h5 (by omega)))) | (have e1 := hI.1; rw [e1, hI.2.1] at c_7; exact (fndM_at (by omega) (by omega) ⟨k34, ⟨by omega, by omega⟩, c_7⟩ hI.2.2.2.2.1).symm) | (intro _; have e1 := hI.1; rw [e1, hI.2.1] at c_7; have e3 := fndM_at (by omega) (by omega) ⟨k34, ⟨by omega, by omega⟩, c_7⟩ hI.2.2.2.2.1; have e4 := fndR_at e3 (by omega) (by omega) c_7 hI.2.2.2.2.2.2; rw [e3, e4]; exact ⟨rfl, by omega, by omega⟩) | grind [upI])
theorem vX3_finds_3 (s : MS) (a1 : Int) (a2 : Int) (hp : tOK (s.2 6) ∧ (0 ≤ a1 ∧ a1 < (s.2 6) 2)) (x1 : Int) (x2 : Int) (x3 : Int) (f11 : Int → Int) (f12 : Int → Int) (k25 : Int) (k33 : Int) (k34 : Int) (hI : x1 = a1 ∧ x2 = a2 ∧ (0 ≤ k33 ∧ k33 ≤ 4) ∧ x3 = 12 ^ k33.toNat ∧ ∀ m : Int, 0 ≤ m → m < k33 → ¬ hasRow (s.2 6) a1 a2 m) (c_1 : ¬ 3 < k33) : x1 = a1 ∧ x2 = a2 ∧ (0 ≤ k33 ∧ k33 ≤ 3) ∧ x3 = 12 ^ k33.toNat ∧ (∀ m : Int, 0 ≤ m → m < k33 → ¬ hasRow (s.2 6) a1 a2 m) ∧ (0 ≤ (0 : Int) ∧ (0 : Int) ≤ x3) ∧ ∀ r : Int, 0 ≤ r → r < (0 : Int) → rowV (s.2 6) a1 k33 r ≠ a2 := by
  obtain ⟨ht, h1⟩ := hp
  have hN := tOK_N ht
  (try have hby := row_by3 (j := k33) (by omega) (by omega))
  (try unfold lex3)
  (try simp only [bI_0, bI_n, Classical.not_not] at *)
  (try simp (disch := omega) only [i32_id] at *)
  first | done | omega | ((repeat' (with_reducible apply And.intro)) <;> first | assumption | rfl | omega | (intro m h5 h6; omega) | (exact (fndM_no (fun m h5 h6 => hI.2.2.2.2 m h5 (by omega))).symm) | (intro h9; exact absurd (fndM_no (fun m h5 h6 => hI.2.2.2.2 m h5 (by omega))) h9) | (exact hI.2.2.2.2) | (exact hI.2.2.2.2.1) | (rw [hI.2.2.2.1]; exact hby.1) | (intro m h5 h6; by_cases e : m = k33; (focus (rw [e]; exact fun ⟨r, q, w⟩ => hI.2.2.2.2.2.2 r q.1 (by have := q.2; omega) w)); (focus (exact hI.2.2.2.2.1 m h5 (by omega)))) | (intro r h5 h6; by_cases e : r = k34; (focus (rw [e, ← hI.1, ← hI.2.1]; assumption)); (focus (exact hI.2.2.2.2.2.2 r h5 (by omega)))) | (have e1 := hI.1; rw [e1, hI.2.1] at c_7; exact (fndM_at (by omega) (by omega) ⟨k34, ⟨by omega, by omega⟩, c_7⟩ hI.2.2.2.2.1).symm) | (intro _; have e1 := hI.1; rw [e1, hI.2.1] at c_7; have e3 := fndM_at (by omega) (by omega) ⟨k34, ⟨by omega, by omega⟩, c_7⟩ hI.2.2.2.2.1; have e4 := fndR_at e3 (by omega) (by omega) c_7 hI.2.2.2.2.2.2; rw [e3, e4]; exact ⟨rfl, by omega, by omega⟩) | grind [upI])
theorem vX3_finds_4 (s : MS) (a1 : Int) (a2 : Int) (hp : tOK (s.2 6) ∧ (0 ≤ a1 ∧ a1 < (s.2 6) 2)) (x1 : Int) (x2 : Int) (x3 : Int) (f11 : Int → Int) (f12 : Int → Int) (k25 : Int) (k33 : Int) (k34 : Int) (hI : x1 = a1 ∧ x2 = a2 ∧ (0 ≤ k33 ∧ k33 ≤ 4) ∧ x3 = 12 ^ k33.toNat ∧ ∀ m : Int, 0 ≤ m → m < k33 → ¬ hasRow (s.2 6) a1 a2 m) (c_1 : ¬ 3 < k33) : lex3 0 ((4 - k33).toNat - 1) ((x3 - (0 : Int)).toNat + 1) 0 ((4 - k33).toNat) 0 := by
  obtain ⟨ht, h1⟩ := hp
  have hN := tOK_N ht
  (try have hby := row_by3 (j := k33) (by omega) (by omega))
  (try unfold lex3)
  (try simp only [bI_0, bI_n, Classical.not_not] at *)
  (try simp (disch := omega) only [i32_id] at *)
  first | done | omega | ((repeat' (with_reducible apply And.intro)) <;> first | assumption | rfl | omega | (intro m h5 h6; omega) | (exact (fndM_no (fun m h5 h6 => hI.2.2.2.2 m h5 (by omega))).symm) | (intro h9; exact absurd (fndM_no (fun m h5 h6 => hI.2.2.2.2 m h5 (by omega))) h9) | (exact hI.2.2.2.2) | (exact hI.2.2.2.2.1) | (rw [hI.2.2.2.1]; exact hby.1) | (intro m h5 h6; by_cases e : m = k33; (focus (rw [e]; exact fun ⟨r, q, w⟩ => hI.2.2.2.2.2.2 r q.1 (by have := q.2; omega) w)); (focus (exact hI.2.2.2.2.1 m h5 (by omega)))) | (intro r h5 h6; by_cases e : r = k34; (focus (rw [e, ← hI.1, ← hI.2.1]; assumption)); (focus (exact hI.2.2.2.2.2.2 r h5 (by omega)))) | (have e1 := hI.1; rw [e1, hI.2.1] at c_7; exact (fndM_at (by omega) (by omega) ⟨k34, ⟨by omega, by omega⟩, c_7⟩ hI.2.2.2.2.1).symm) | (intro _; have e1 := hI.1; rw [e1, hI.2.1] at c_7; have e3 := fndM_at (by omega) (by omega) ⟨k34, ⟨by omega, by omega⟩, c_7⟩ hI.2.2.2.2.1; have e4 := fndR_at e3 (by omega) (by omega) c_7 hI.2.2.2.2.2.2; rw [e3, e4]; exact ⟨rfl, by omega, by omega⟩) | grind [upI])
theorem vX3_finds_5 (s : MS) (a1 : Int) (a2 : Int) (hp : tOK (s.2 6) ∧ (0 ≤ a1 ∧ a1 < (s.2 6) 2)) (x1 : Int) (x2 : Int) (x3 : Int) (f11 : Int → Int) (f12 : Int → Int) (k25 : Int) (k33 : Int) (k34 : Int) (hI : x1 = a1 ∧ x2 = a2 ∧ (0 ≤ k33 ∧ k33 ≤ 3) ∧ x3 = 12 ^ k33.toNat ∧ (∀ m : Int, 0 ≤ m → m < k33 → ¬ hasRow (s.2 6) a1 a2 m) ∧ (0 ≤ k34 ∧ k34 ≤ x3) ∧ ∀ r : Int, 0 ≤ r → r < k34 → rowV (s.2 6) a1 k33 r ≠ a2) (c_1 : x3 ≤ k34) : x1 = a1 ∧ x2 = a2 ∧ (0 ≤ (i32 (k33 + 1)) ∧ (i32 (k33 + 1)) ≤ 4) ∧ (i32 (x3 * 12)) = 12 ^ (i32 (k33 + 1)).toNat ∧ ∀ m : Int, 0 ≤ m → m < (i32 (k33 + 1)) → ¬ hasRow (s.2 6) a1 a2 m := by
  obtain ⟨ht, h1⟩ := hp
  have hN := tOK_N ht
  (try have hby := row_by3 (j := k33) (by omega) (by omega))
  (try unfold lex3)
  (try simp only [bI_0, bI_n, Classical.not_not] at *)
  (try simp (disch := omega) only [i32_id] at *)
  first | done | omega | ((repeat' (with_reducible apply And.intro)) <;> first | assumption | rfl | omega | (intro m h5 h6; omega) | (exact (fndM_no (fun m h5 h6 => hI.2.2.2.2 m h5 (by omega))).symm) | (intro h9; exact absurd (fndM_no (fun m h5 h6 => hI.2.2.2.2 m h5 (by omega))) h9) | (exact hI.2.2.2.2) | (exact hI.2.2.2.2.1) | (rw [hI.2.2.2.1]; exact hby.1) | (intro m h5 h6; by_cases e : m = k33; (focus (rw [e]; exact fun ⟨r, q, w⟩ => hI.2.2.2.2.2.2 r q.1 (by have := q.2; omega) w)); (focus (exact hI.2.2.2.2.1 m h5 (by omega)))) | (intro r h5 h6; by_cases e : r = k34; (focus (rw [e, ← hI.1, ← hI.2.1]; assumption)); (focus (exact hI.2.2.2.2.2.2 r h5 (by omega)))) | (have e1 := hI.1; rw [e1, hI.2.1] at c_7; exact (fndM_at (by omega) (by omega) ⟨k34, ⟨by omega, by omega⟩, c_7⟩ hI.2.2.2.2.1).symm) | (intro _; have e1 := hI.1; rw [e1, hI.2.1] at c_7; have e3 := fndM_at (by omega) (by omega) ⟨k34, ⟨by omega, by omega⟩, c_7⟩ hI.2.2.2.2.1; have e4 := fndR_at e3 (by omega) (by omega) c_7 hI.2.2.2.2.2.2; rw [e3, e4]; exact ⟨rfl, by omega, by omega⟩) | grind [upI])
theorem vX3_finds_6 (s : MS) (a1 : Int) (a2 : Int) (hp : tOK (s.2 6) ∧ (0 ≤ a1 ∧ a1 < (s.2 6) 2)) (x1 : Int) (x2 : Int) (x3 : Int) (f11 : Int → Int) (f12 : Int → Int) (k25 : Int) (k33 : Int) (k34 : Int) (hI : x1 = a1 ∧ x2 = a2 ∧ (0 ≤ k33 ∧ k33 ≤ 3) ∧ x3 = 12 ^ k33.toNat ∧ (∀ m : Int, 0 ≤ m → m < k33 → ¬ hasRow (s.2 6) a1 a2 m) ∧ (0 ≤ k34 ∧ k34 ≤ x3) ∧ ∀ r : Int, 0 ≤ r → r < k34 → rowV (s.2 6) a1 k33 r ≠ a2) (c_1 : x3 ≤ k34) : lex3 0 ((4 - (i32 (k33 + 1))).toNat) 0 0 ((4 - k33).toNat - 1) ((x3 - k34).toNat + 1) := by
  obtain ⟨ht, h1⟩ := hp
  have hN := tOK_N ht
  (try have hby := row_by3 (j := k33) (by omega) (by omega))
  (try unfold lex3)
  (try simp only [bI_0, bI_n, Classical.not_not] at *)
  (try simp (disch := omega) only [i32_id] at *)
  first | done | omega | ((repeat' (with_reducible apply And.intro)) <;> first | assumption | rfl | omega | (intro m h5 h6; omega) | (exact (fndM_no (fun m h5 h6 => hI.2.2.2.2 m h5 (by omega))).symm) | (intro h9; exact absurd (fndM_no (fun m h5 h6 => hI.2.2.2.2 m h5 (by omega))) h9) | (exact hI.2.2.2.2) | (exact hI.2.2.2.2.1) | (rw [hI.2.2.2.1]; exact hby.1) | (intro m h5 h6; by_cases e : m = k33; (focus (rw [e]; exact fun ⟨r, q, w⟩ => hI.2.2.2.2.2.2 r q.1 (by have := q.2; omega) w)); (focus (exact hI.2.2.2.2.1 m h5 (by omega)))) | (intro r h5 h6; by_cases e : r = k34; (focus (rw [e, ← hI.1, ← hI.2.1]; assumption)); (focus (exact hI.2.2.2.2.2.2 r h5 (by omega)))) | (have e1 := hI.1; rw [e1, hI.2.1] at c_7; exact (fndM_at (by omega) (by omega) ⟨k34, ⟨by omega, by omega⟩, c_7⟩ hI.2.2.2.2.1).symm) | (intro _; have e1 := hI.1; rw [e1, hI.2.1] at c_7; have e3 := fndM_at (by omega) (by omega) ⟨k34, ⟨by omega, by omega⟩, c_7⟩ hI.2.2.2.2.1; have e4 := fndR_at e3 (by omega) (by omega) c_7 hI.2.2.2.2.2.2; rw [e3, e4]; exact ⟨rfl, by omega, by omega⟩) | grind [upI])
theorem vX3_finds_7 (s : MS) (a1 : Int) (a2 : Int) (hp : tOK (s.2 6) ∧ (0 ≤ a1 ∧ a1 < (s.2 6) 2)) (x1 : Int) (x2 : Int) (x3 : Int) (f11 : Int → Int) (f12 : Int → Int) (k25 : Int) (k33 : Int) (k34 : Int) (hI : x1 = a1 ∧ x2 = a2 ∧ (0 ≤ k33 ∧ k33 ≤ 3) ∧ x3 = 12 ^ k33.toNat ∧ (∀ m : Int, 0 ≤ m → m < k33 → ¬ hasRow (s.2 6) a1 a2 m) ∧ (0 ≤ k34 ∧ k34 ≤ x3) ∧ ∀ r : Int, 0 ≤ r → r < k34 → rowV (s.2 6) a1 k33 r ≠ a2) (c_1 : ¬ x3 ≤ k34) : (tOK (s.2 6) ∧ (0 ≤ x1 ∧ x1 < (s.2 6) 2) ∧ (0 ≤ k33 ∧ k33 ≤ 3) ∧ 0 ≤ k34 ∧ k34 < 12 ^ (k33).toNat) := by
  obtain ⟨ht, h1⟩ := hp
  have hN := tOK_N ht
  (try have hby := row_by3 (j := k33) (by omega) (by omega))
  (try unfold lex3)
  (try simp only [bI_0, bI_n, Classical.not_not] at *)
  (try simp (disch := omega) only [i32_id] at *)
  first | done | omega | ((repeat' (with_reducible apply And.intro)) <;> first | assumption | rfl | omega | (intro m h5 h6; omega) | (exact (fndM_no (fun m h5 h6 => hI.2.2.2.2 m h5 (by omega))).symm) | (intro h9; exact absurd (fndM_no (fun m h5 h6 => hI.2.2.2.2 m h5 (by omega))) h9) | (exact hI.2.2.2.2) | (exact hI.2.2.2.2.1) | (rw [hI.2.2.2.1]; exact hby.1) | (intro m h5 h6; by_cases e : m = k33; (focus (rw [e]; exact fun ⟨r, q, w⟩ => hI.2.2.2.2.2.2 r q.1 (by have := q.2; omega) w)); (focus (exact hI.2.2.2.2.1 m h5 (by omega)))) | (intro r h5 h6; by_cases e : r = k34; (focus (rw [e, ← hI.1, ← hI.2.1]; assumption)); (focus (exact hI.2.2.2.2.2.2 r h5 (by omega)))) | (have e1 := hI.1; rw [e1, hI.2.1] at c_7; exact (fndM_at (by omega) (by omega) ⟨k34, ⟨by omega, by omega⟩, c_7⟩ hI.2.2.2.2.1).symm) | (intro _; have e1 := hI.1; rw [e1, hI.2.1] at c_7; have e3 := fndM_at (by omega) (by omega) ⟨k34, ⟨by omega, by omega⟩, c_7⟩ hI.2.2.2.2.1; have e4 := fndR_at e3 (by omega) (by omega) c_7 hI.2.2.2.2.2.2; rw [e3, e4]; exact ⟨rfl, by omega, by omega⟩) | grind [upI])
theorem vX3_finds_8 (s : MS) (a1 : Int) (a2 : Int) (hp : tOK (s.2 6) ∧ (0 ≤ a1 ∧ a1 < (s.2 6) 2)) (x1 : Int) (x2 : Int) (x3 : Int) (f11 : Int → Int) (f12 : Int → Int) (k25 : Int) (k33 : Int) (k34 : Int) (hI : x1 = a1 ∧ x2 = a2 ∧ (0 ≤ k33 ∧ k33 ≤ 3) ∧ x3 = 12 ^ k33.toNat ∧ (∀ m : Int, 0 ≤ m → m < k33 → ¬ hasRow (s.2 6) a1 a2 m) ∧ (0 ≤ k34 ∧ k34 ≤ x3) ∧ ∀ r : Int, 0 ≤ r → r < k34 → rowV (s.2 6) a1 k33 r ≠ a2) (c_1 : ¬ x3 ≤ k34) (o_2 : (tOK (s.2 6) ∧ (0 ≤ x1 ∧ x1 < (s.2 6) 2) ∧ (0 ≤ k33 ∧ k33 ≤ 3) ∧ 0 ≤ k34 ∧ k34 < 12 ^ (k33).toNat)) (f_3 : Int → Int) (f_4 : Int → Int) (k_5 : Int) (c_7 : ¬ (rowV (s.2 6) x1 k33 k34) = x2) : x1 = a1 ∧ x2 = a2 ∧ (0 ≤ k33 ∧ k33 ≤ 3) ∧ x3 = 12 ^ k33.toNat ∧ (∀ m : Int, 0 ≤ m → m < k33 → ¬ hasRow (s.2 6) a1 a2 m) ∧ (0 ≤ (i32 (k34 + 1)) ∧ (i32 (k34 + 1)) ≤ x3) ∧ ∀ r : Int, 0 ≤ r → r < (i32 (k34 + 1)) → rowV (s.2 6) a1 k33 r ≠ a2 := by
  obtain ⟨ht, h1⟩ := hp
  have hN := tOK_N ht
  (try have hby := row_by3 (j := k33) (by omega) (by omega))
  (try unfold lex3)
  (try simp only [bI_0, bI_n, Classical.not_not] at *)
  (try simp (disch := omega) only [i32_id] at *)
  first | done | omega | ((repeat' (with_reducible apply And.intro)) <;> first | assumption | rfl | omega | (intro m h5 h6; omega) | (exact (fndM_no (fun m h5 h6 => hI.2.2.2.2 m h5 (by omega))).symm) | (intro h9; exact absurd (fndM_no (fun m h5 h6 => hI.2.2.2.2 m h5 (by omega))) h9) | (exact hI.2.2.2.2) | (exact hI.2.2.2.2.1) | (rw [hI.2.2.2.1]; exact hby.1) | (intro m h5 h6; by_cases e : m = k33; (focus (rw [e]; exact fun ⟨r, q, w⟩ => hI.2.2.2.2.2.2 r q.1 (by have := q.2; omega) w)); (focus (exact hI.2.2.2.2.1 m h5 (by omega)))) | (intro r h5 h6; by_cases e : r = k34; (focus (rw [e, ← hI.1, ← hI.2.1]; assumption)); (focus (exact hI.2.2.2.2.2.2 r h5 (by omega)))) | (have e1 := hI.1; rw [e1, hI.2.1] at c_7; exact (fndM_at (by omega) (by omega) ⟨k34, ⟨by omega, by omega⟩, c_7⟩ hI.2.2.2.2.1).symm) | (intro _; have e1 := hI.1; rw [e1, hI.2.1] at c_7; have e3 := fndM_at (by omega) (by omega) ⟨k34, ⟨by omega, by omega⟩, c_7⟩ hI.2.2.2.2.1; have e4 := fndR_at e3 (by omega) (by omega) c_7 hI.2.2.2.2.2.2; rw [e3, e4]; exact ⟨rfl, by omega, by omega⟩) | grind [upI])
theorem vX3_finds_9 (s : MS) (a1 : Int) (a2 : Int) (hp : tOK (s.2 6) ∧ (0 ≤ a1 ∧ a1 < (s.2 6) 2)) (x1 : Int) (x2 : Int) (x3 : Int) (f11 : Int → Int) (f12 : Int → Int) (k25 : Int) (k33 : Int) (k34 : Int) (hI : x1 = a1 ∧ x2 = a2 ∧ (0 ≤ k33 ∧ k33 ≤ 3) ∧ x3 = 12 ^ k33.toNat ∧ (∀ m : Int, 0 ≤ m → m < k33 → ¬ hasRow (s.2 6) a1 a2 m) ∧ (0 ≤ k34 ∧ k34 ≤ x3) ∧ ∀ r : Int, 0 ≤ r → r < k34 → rowV (s.2 6) a1 k33 r ≠ a2) (c_1 : ¬ x3 ≤ k34) (o_2 : (tOK (s.2 6) ∧ (0 ≤ x1 ∧ x1 < (s.2 6) 2) ∧ (0 ≤ k33 ∧ k33 ≤ 3) ∧ 0 ≤ k34 ∧ k34 < 12 ^ (k33).toNat)) (f_3 : Int → Int) (f_4 : Int → Int) (k_5 : Int) (c_7 : ¬ (rowV (s.2 6) x1 k33 k34) = x2) : lex3 0 ((4 - k33).toNat - 1) ((x3 - (i32 (k34 + 1))).toNat + 1) 0 ((4 - k33).toNat - 1) ((x3 - k34).toNat + 1) := by
  obtain ⟨ht, h1⟩ := hp
  have hN := tOK_N ht
  (try have hby := row_by3 (j := k33) (by omega) (by omega))
  (try unfold lex3)
  (try simp only [bI_0, bI_n, Classical.not_not] at *)
  (try simp (disch := omega) only [i32_id] at *)
  first | done | omega | ((repeat' (with_reducible apply And.intro)) <;> first | assumption | rfl | omega | (intro m h5 h6; omega) | (exact (fndM_no (fun m h5 h6 => hI.2.2.2.2 m h5 (by omega))).symm) | (intro h9; exact absurd (fndM_no (fun m h5 h6 => hI.2.2.2.2 m h5 (by omega))) h9) | (exact hI.2.2.2.2) | (exact hI.2.2.2.2.1) | (rw [hI.2.2.2.1]; exact hby.1) | (intro m h5 h6; by_cases e : m = k33; (focus (rw [e]; exact fun ⟨r, q, w⟩ => hI.2.2.2.2.2.2 r q.1 (by have := q.2; omega) w)); (focus (exact hI.2.2.2.2.1 m h5 (by omega)))) | (intro r h5 h6; by_cases e : r = k34; (focus (rw [e, ← hI.1, ← hI.2.1]; assumption)); (focus (exact hI.2.2.2.2.2.2 r h5 (by omega)))) | (have e1 := hI.1; rw [e1, hI.2.1] at c_7; exact (fndM_at (by omega) (by omega) ⟨k34, ⟨by omega, by omega⟩, c_7⟩ hI.2.2.2.2.1).symm) | (intro _; have e1 := hI.1; rw [e1, hI.2.1] at c_7; have e3 := fndM_at (by omega) (by omega) ⟨k34, ⟨by omega, by omega⟩, c_7⟩ hI.2.2.2.2.1; have e4 := fndR_at e3 (by omega) (by omega) c_7 hI.2.2.2.2.2.2; rw [e3, e4]; exact ⟨rfl, by omega, by omega⟩) | grind [upI])
theorem vX3_finds_10 (s : MS) (a1 : Int) (a2 : Int) (hp : tOK (s.2 6) ∧ (0 ≤ a1 ∧ a1 < (s.2 6) 2)) (x1 : Int) (x2 : Int) (x3 : Int) (f11 : Int → Int) (f12 : Int → Int) (k25 : Int) (k33 : Int) (k34 : Int) (hI : x1 = a1 ∧ x2 = a2 ∧ (0 ≤ k33 ∧ k33 ≤ 3) ∧ x3 = 12 ^ k33.toNat ∧ (∀ m : Int, 0 ≤ m → m < k33 → ¬ hasRow (s.2 6) a1 a2 m) ∧ (0 ≤ k34 ∧ k34 ≤ x3) ∧ ∀ r : Int, 0 ≤ r → r < k34 → rowV (s.2 6) a1 k33 r ≠ a2) (c_1 : ¬ x3 ≤ k34) (o_2 : (tOK (s.2 6) ∧ (0 ≤ x1 ∧ x1 < (s.2 6) 2) ∧ (0 ≤ k33 ∧ k33 ≤ 3) ∧ 0 ≤ k34 ∧ k34 < 12 ^ (k33).toNat)) (f_3 : Int → Int) (f_4 : Int → Int) (k_5 : Int) (c_7 : (rowV (s.2 6) x1 k33 k34) = x2) : k33 = (fndM (s.2 6) a1 a2) := by
  obtain ⟨ht, h1⟩ := hp
  have hN := tOK_N ht
  (try have hby := row_by3 (j := k33) (by omega) (by omega))
  (try unfold lex3)
  (try simp only [bI_0, bI_n, Classical.not_not] at *)
  (try simp (disch := omega) only [i32_id] at *)
  first | done | omega | ((repeat' (with_reducible apply And.intro)) <;> first | assumption | rfl | omega | (intro m h5 h6; omega) | (exact (fndM_no (fun m h5 h6 => hI.2.2.2.2 m h5 (by omega))).symm) | (intro h9; exact absurd (fndM_no (fun m h5 h6 => hI.2.2.2.2 m h5 (by omega))) h9) | (exact hI.2.2.2.2) | (exact hI.2.2.2.2.1) | (rw [hI.2.2.2.1]; exact hby.1) | (intro m h5 h6; by_cases e : m = k33; (focus (rw [e]; exact fun ⟨r, q, w⟩ => hI.2.2.2.2.2.2 r q.1 (by have := q.2; omega) w)); (focus (exact hI.2.2.2.2.1 m h5 (by omega)))) | (intro r h5 h6; by_cases e : r = k34; (focus (rw [e, ← hI.1, ← hI.2.1]; assumption)); (focus (exact hI.2.2.2.2.2.2 r h5 (by omega)))) | (have e1 := hI.1; rw [e1, hI.2.1] at c_7; exact (fndM_at (by omega) (by omega) ⟨k34, ⟨by omega, by omega⟩, c_7⟩ hI.2.2.2.2.1).symm) | (intro _; have e1 := hI.1; rw [e1, hI.2.1] at c_7; have e3 := fndM_at (by omega) (by omega) ⟨k34, ⟨by omega, by omega⟩, c_7⟩ hI.2.2.2.2.1; have e4 := fndR_at e3 (by omega) (by omega) c_7 hI.2.2.2.2.2.2; rw [e3, e4]; exact ⟨rfl, by omega, by omega⟩) | grind [upI])
theorem vX3_finds_11 (s : MS) (a1 : Int) (a2 : Int) (hp : tOK (s.2 6) ∧ (0 ≤ a1 ∧ a1 < (s.2 6) 2)) (x1 : Int) (x2 : Int) (x3 : Int) (f11 : Int → Int) (f12 : Int → Int) (k25 : Int) (k33 : Int) (k34 : Int) (hI : x1 = a1 ∧ x2 = a2 ∧ (0 ≤ k33 ∧ k33 ≤ 3) ∧ x3 = 12 ^ k33.toNat ∧ (∀ m : Int, 0 ≤ m → m < k33 → ¬ hasRow (s.2 6) a1 a2 m) ∧ (0 ≤ k34 ∧ k34 ≤ x3) ∧ ∀ r : Int, 0 ≤ r → r < k34 → rowV (s.2 6) a1 k33 r ≠ a2) (c_1 : ¬ x3 ≤ k34) (o_2 : (tOK (s.2 6) ∧ (0 ≤ x1 ∧ x1 < (s.2 6) 2) ∧ (0 ≤ k33 ∧ k33 ≤ 3) ∧ 0 ≤ k34 ∧ k34 < 12 ^ (k33).toNat)) (f_3 : Int → Int) (f_4 : Int → Int) (k_5 : Int) (c_7 : (rowV (s.2 6) x1 k33 k34) = x2) : (fndM (s.2 6) a1 a2 ≠ -1 → k34 = fndR (s.2 6) a1 a2 ∧ 0 ≤ k34 ∧ k34 < 12 ^ (fndM (s.2 6) a1 a2).toNat) := by
  obtain ⟨ht, h1⟩ := hp
  have hN := tOK_N ht
  (try have hby := row_by3 (j := k33) (by omega) (by omega))
  (try unfold lex3)
  (try simp only [bI_0, bI_n, Classical.not_not] at *)
  (try simp (disch := omega) only [i32_id] at *)
  first | done | omega | ((repeat' (with_reducible apply And.intro)) <;> first | assumption | rfl | omega | (intro m h5 h6; omega) | (exact (fndM_no (fun m h5 h6 => hI.2.2.2.2 m h5 (by omega))).symm) | (intro h9; exact absurd (fndM_no (fun m h5 h6 => hI.2.2.2.2 m h5 (by omega))) h9) | (exact hI.2.2.2.2) | (exact hI.2.2.2.2.1) | (rw [hI.2.2.2.1]; exact hby.1) | (intro m h5 h6; by_cases e : m = k33; (focus (rw [e]; exact fun ⟨r, q, w⟩ => hI.2.2.2.2.2.2 r q.1 (by have := q.2; omega) w)); (focus (exact hI.2.2.2.2.1 m h5 (by omega)))) | (intro r h5 h6; by_cases e : r = k34; (focus (rw [e, ← hI.1, ← hI.2.1]; assumption)); (focus (exact hI.2.2.2.2.2.2 r h5 (by omega)))) | (have e1 := hI.1; rw [e1, hI.2.1] at c_7; exact (fndM_at (by omega) (by omega) ⟨k34, ⟨by omega, by omega⟩, c_7⟩ hI.2.2.2.2.1).symm) | (intro _; have e1 := hI.1; rw [e1, hI.2.1] at c_7; have e3 := fndM_at (by omega) (by omega) ⟨k34, ⟨by omega, by omega⟩, c_7⟩ hI.2.2.2.2.1; have e4 := fndR_at e3 (by omega) (by omega) c_7 hI.2.2.2.2.2.2; rw [e3, e4]; exact ⟨rfl, by omega, by omega⟩) | grind [upI])
theorem vX3_finds_12 (s : MS) (a1 : Int) (a2 : Int) (hp : tOK (s.2 6) ∧ (0 ≤ a1 ∧ a1 < (s.2 6) 2)) : a1 = a1 ∧ a2 = a2 ∧ (0 ≤ (0 : Int) ∧ (0 : Int) ≤ 4) ∧ (1 : Int) = 12 ^ (0 : Int).toNat ∧ ∀ m : Int, 0 ≤ m → m < (0 : Int) → ¬ hasRow (s.2 6) a1 a2 m := by
  obtain ⟨ht, h1⟩ := hp
  have hN := tOK_N ht
  (try have hby := row_by3 (j := k33) (by omega) (by omega))
  (try unfold lex3)
  (try simp only [bI_0, bI_n, Classical.not_not] at *)
  (try simp (disch := omega) only [i32_id] at *)
  first | done | omega | ((repeat' (with_reducible apply And.intro)) <;> first | assumption | rfl | omega | (intro m h5 h6; omega) | (exact (fndM_no (fun m h5 h6 => hI.2.2.2.2 m h5 (by omega))).symm) | (intro h9; exact absurd (fndM_no (fun m h5 h6 => hI.2.2.2.2 m h5 (by omega))) h9) | (exact hI.2.2.2.2) | (exact hI.2.2.2.2.1) | (rw [hI.2.2.2.1]; exact hby.1) | (intro m h5 h6; by_cases e : m = k33; (focus (rw [e]; exact fun ⟨r, q, w⟩ => hI.2.2.2.2.2.2 r q.1 (by have := q.2; omega) w)); (focus (exact hI.2.2.2.2.1 m h5 (by omega)))) | (intro r h5 h6; by_cases e : r = k34; (focus (rw [e, ← hI.1, ← hI.2.1]; assumption)); (focus (exact hI.2.2.2.2.2.2 r h5 (by omega)))) | (have e1 := hI.1; rw [e1, hI.2.1] at c_7; exact (fndM_at (by omega) (by omega) ⟨k34, ⟨by omega, by omega⟩, c_7⟩ hI.2.2.2.2.1).symm) | (intro _; have e1 := hI.1; rw [e1, hI.2.1] at c_7; have e3 := fndM_at (by omega) (by omega) ⟨k34, ⟨by omega, by omega⟩, c_7⟩ hI.2.2.2.2.1; have e4 := fndR_at e3 (by omega) (by omega) c_7 hI.2.2.2.2.2.2; rw [e3, e4]; exact ⟨rfl, by omega, by omega⟩) | grind [upI])
theorem allX3_finds (b : AH) (s : MS) (a1 : Int) (a2 : Int) (hp : tOK (s.2 6) ∧ (0 ≤ a1 ∧ a1 < (s.2 6) 2)) : ∀ m1 m2 m3 : Nat, (∀ (x1 : Int) (x2 : Int) (x3 : Int) (f11 : Int → Int) (f12 : Int → Int) (k25 : Int) (k33 : Int) (k34 : Int), m1 = 0 → m2 = ((4 - k33).toNat) → m3 = 0 → (x1 = a1 ∧ x2 = a2 ∧ (0 ≤ k33 ∧ k33 ≤ 4) ∧ x3 = 12 ^ k33.toNat ∧ ∀ m : Int, 0 ≤ m → m < k33 → ¬ hasRow (s.2 6) a1 a2 m) → HX3_finds_7 (QX3_finds s a1 a2) b s x1 x2 x3 f11 f12 k25 k33 k34) ∧ (∀ (x1 : Int) (x2 : Int) (x3 : Int) (f11 : Int → Int) (f12 : Int → Int) (k25 : Int) (k33 : Int) (k34 : Int), m1 = 0 → m2 = ((4 - k33).toNat - 1) → m3 = ((x3 - k34).toNat + 1) → (x1 = a1 ∧ x2 = a2 ∧ (0 ≤ k33 ∧ k33 ≤ 3) ∧ x3 = 12 ^ k33.toNat ∧ (∀ m : Int, 0 ≤ m → m < k33 → ¬ hasRow (s.2 6) a1 a2 m) ∧ (0 ≤ k34 ∧ k34 ≤ x3) ∧ ∀ r : Int, 0 ≤ r → r < k34 → rowV (s.2 6) a1 k33 r ≠ a2) → HX3_finds_20 (QX3_finds s a1 a2) b s x1 x2 x3 f11 f12 k25 k33 k34) := by
  refine lex3_ind ?_
  intro m1 m2 m3 ih
  refine ⟨?_, ?_⟩
  · rintro x1 x2 x3 f11 f12 k25 k33 k34 rfl rfl rfl hI
    refine bX3_finds_7 b s x1 x2 x3 f11 f12 k25 k33 k34 ?_
    refine ⟨fun c_1 => ?_, fun c_1 => ?_⟩
    · exact ⟨f11, f12, k25, k34, rfl, (sS_c (sS_c (sS_c (sA_c (sA_c rfl rfl) rfl) rfl) (vX3_finds_1 s a1 a2 hp x1 x2 x3 f11 f12 k25 k33 k34 hI c_1)) rfl), (vX3_finds_2 s a1 a2 hp x1 x2 x3 f11 f12 k25 k33 k34 hI c_1)⟩
    · exact (ih _ _ _ (vX3_finds_4 s a1 a2 hp x1 x2 x3 f11 f12 k25 k33 k34 hI c_1)).2 x1 x2 x3 f11 f12 k25 k33 0 rfl rfl rfl (vX3_finds_3 s a1 a2 hp x1 x2 x3 f11 f12 k25 k33 k34 hI c_1)
  · rintro x1 x2 x3 f11 f12 k25 k33 k34 rfl rfl rfl hI
    refine bX3_finds_20 b s x1 x2 x3 f11 f12 k25 k33 k34 ?_
    refine ⟨fun c_1 => ?_, fun c_1 => ?_⟩
    · exact (ih _ _ _ (vX3_finds_6 s a1 a2 hp x1 x2 x3 f11 f12 k25 k33 k34 hI c_1)).1 x1 x2 (i32 (x3 * 12)) f11 f12 k25 (i32 (k33 + 1)) k34 rfl rfl rfl (vX3_finds_5 s a1 a2 hp x1 x2 x3 f11 f12 k25 k33 k34 hI c_1)
    · have o_2 : (tOK (s.2 6) ∧ (0 ≤ x1 ∧ x1 < (s.2 6) 2) ∧ (0 ≤ k33 ∧ k33 ≤ 3) ∧ 0 ≤ k34 ∧ k34 < 12 ^ (k33).toNat) := (vX3_finds_7 s a1 a2 hp x1 x2 x3 f11 f12 k25 k33 k34 hI c_1)
      refine ⟨o_2, ?_⟩
      intro f_3 f_4 k_5
      refine ⟨fun c_7 => ?_, fun c_7 => ?_⟩
      · exact (ih _ _ _ (vX3_finds_9 s a1 a2 hp x1 x2 x3 f11 f12 k25 k33 k34 hI c_1 o_2 f_3 f_4 k_5 c_7)).2 x1 x2 x3 f_3 f_4 k_5 k33 (i32 (k34 + 1)) rfl rfl rfl (vX3_finds_8 s a1 a2 hp x1 x2 x3 f11 f12 k25 k33 k34 hI c_1 o_2 f_3 f_4 k_5 c_7)
      · exact ⟨f_3, f_4, k_5, k34, rfl, (sS_c (sS_c (sS_c (sA_c (sA_c rfl rfl) rfl) rfl) (vX3_finds_10 s a1 a2 hp x1 x2 x3 f11 f12 k25 k33 k34 hI c_1 o_2 f_3 f_4 k_5 c_7)) rfl), (vX3_finds_11 s a1 a2 hp x1 x2 x3 f11 f12 k25 k33 k34 hI c_1 o_2 f_3 f_4 k_5 c_7)⟩
theorem ctX3_finds (b : AH) (s : MS) (a1 : Int) (a2 : Int) (hp : tOK (s.2 6) ∧ (0 ≤ a1 ∧ a1 < (s.2 6) 2)) : MC mX3_finds 6 b s [vI a1, vI a2] (QX3_finds s a1 a2) := by
  refine MC.of (by decide) rfl (Nat.le_of_ble_eq_true rfl) (JW.steq (s2 := sS (sS (sS (sA (sA s 11 (s.2 11)) 12 (s.2 12)) 25 (s.1 25)) 33 (s.1 33)) 34 (s.1 34)) (by simp only [sA_id, sS_id]) ?_)
  refine bX3_finds_0 b s a1 a2 (s.2 11) (s.2 12) (s.1 25) (s.1 33) (s.1 34) ?_
  exact (allX3_finds b s a1 a2 hp _ _ _).1 a1 a2 1 (s.2 11) (s.2 12) (s.1 25) 0 (s.1 34) rfl rfl rfl (vX3_finds_12 s a1 a2 hp)
def HX3_find_0 (Q : Option AV → MS → Prop) (b : AH) (s : MS) (x1 : Int) (x2 : Int) (f11 : Int → Int) (f12 : Int → Int) (f13 : Int → Int) (f14 : Int → Int) (f15 : Int → Int) (f16 : Int → Int) (f17 : Int → Int) (f18 : Int → Int) (f19 : Int → Int) (k0 : Int) (k25 : Int) (k33 : Int) (k34 : Int) : Prop := MW mX3_find 8 Q b 0 [(0, vR 351), (1, vI x1), (2, vI x2)] [] (sS (sS (sS (sS (sA (sA (sA (sA (sA (sA (sA (sA (sA s 11 f11) 12 f12) 13 f13) 14 f14) 15 f15) 16 f16) 17 f17) 18 f18) 19 f19) 0 k0) 25 k25) 33 k33) 34 k34)
theorem bX3_find_0 {Q : Option AV → MS → Prop} (b : AH) (s : MS) (x1 : Int) (x2 : Int) (f11 : Int → Int) (f12 : Int → Int) (f13 : Int → Int) (f14 : Int → Int) (f15 : Int → Int) (f16 : Int → Int) (f17 : Int → Int) (f18 : Int → Int) (f19 : Int → Int) (k0 : Int) (k25 : Int) (k33 : Int) (k34 : Int) (K : (tOK (s.2 6)) ∧ (((bI (0 ≤ x1 ∧ x1 < (s.2 6) 2)) = 0 → Q (some (vI (-2))) (sS (sS (sS (sS (sA (sA (sA (sA (sA (sA (sA (sA (sA s 11 f11) 12 f12) 13 f13) 14 f14) 15 f15) 16 f16) 17 f17) 18 f18) 19 f19) 0 0) 25 k25) 33 k33) 34 k34)) ∧ (¬ (bI (0 ≤ x1 ∧ x1 < (s.2 6) 2)) = 0 → (¬ (bI (0 ≤ x2 ∧ x2 < (s.2 6) 2)) = 0 → (tOK (s.2 6) ∧ (0 ≤ x1 ∧ x1 < (s.2 6) 2)) ∧ ((∀ (f_7 : Int → Int) (f_8 : Int → Int) (k_9 : Int) (k_10 : Int), ((fndM (s.2 6) x1 x2 ≠ -1 → k_10 = fndR (s.2 6) x1 x2 ∧ 0 ≤ k_10 ∧ k_10 < 12 ^ (fndM (s.2 6) x1 x2).toNat)) → Q (some (vI (fndM (s.2 6) x1 x2))) (sS (sS (sS (sS (sA (sA (sA (sA (sA (sA (sA (sA (sA s 11 f_7) 12 f_8) 13 f13) 14 f14) 15 f15) 16 f16) 17 f17) 18 f18) 19 f19) 0 0) 25 k_9) 33 (fndM (s.2 6) x1 x2)) 34 k_10)))) ∧ ((bI (0 ≤ x2 ∧ x2 < (s.2 6) 2)) = 0 → Q (some (vI (-2))) (sS (sS (sS (sS (sA (sA (sA (sA (sA (sA (sA (sA (sA s 11 f11) 12 f12) 13 f13) 14 f14) 15 f15) 16 f16) 17 f17) 18 f18) 19 f19) 0 0) 25 k25) 33 k33) 34 k34))))) : HX3_find_0 Q b s x1 x2 f11 f12 f13 f14 f15 f16 f17 f18 f19 k0 k25 k33 k34 := by
  refine JW.aload_n dX3_find_0 rfl ?_
  refine JW.iconst dX3_find_1 rfl ?_
  refine JW.mputI dX3_find_2 (pX3_77 _) rfl ?_
  refine JW.steq (s2 := sS (sS (sS (sS (sA (sA (sA (sA (sA (sA (sA (sA (sA s 11 f11) 12 f12) 13 f13) 14 f14) 15 f15) 16 f16) 17 f17) 18 f18) 19 f19) 0 0) 25 k25) 33 k33) 34 k34) (by simp only [sA_A, sS_S, sA_S, sA_lt, sS_lt, Nat.reduceLT, id_eq] <;> rfl) ?_
  refine JW.aload_n dX3_find_5 rfl ?_
  refine JW.iload_n dX3_find_6 rfl ?_
  refine JW.i2l dX3_find_7 ?_
  obtain ⟨o_1, K⟩ := K
  refine JW.mcall (As := [vL x1]) dX3_find_8 vX3_isNumber rfl q1806 (ctX3_isNumber b (sS (sS (sS (sS (sA (sA (sA (sA (sA (sA (sA (sA (sA s 11 f11) 12 f12) 13 f13) 14 f14) 15 f15) 16 f16) 17 f17) 18 f18) 19 f19) 0 0) 25 k25) 33 k33) 34 k34) x1 o_1) (Nat.le_of_ble_eq_true rfl) rfl (Nat.le_of_ble_eq_true rfl) ?_
  rintro _ _ ⟨rfl, eq_2⟩
  refine JW.steq (s2 := sS (sS (sS (sS (sA (sA (sA (sA (sA (sA (sA (sA (sA s 11 f11) 12 f12) 13 f13) 14 f14) 15 f15) 16 f16) 17 f17) 18 f18) 19 f19) 0 0) 25 k25) 33 k33) 34 k34) eq_2 ?_
  refine JW.if_eq (tgt := 23) dX3_find_11 rfl (fun c_3 => ?_) (fun c_3 => ?_)
  · have K := K.1 c_3
    refine JW.bipush dX3_find_23 rfl ?_
    exact JW.ireturn dX3_find_25 rfl rfl ⟨_, rfl, K⟩
  · have K := K.2 c_3
    refine JW.aload_n dX3_find_14 rfl ?_
    refine JW.iload_n dX3_find_15 rfl ?_
    refine JW.i2l dX3_find_16 ?_
    refine JW.mcall (As := [vL x2]) dX3_find_17 vX3_isNumber rfl q1806 (ctX3_isNumber b (sS (sS (sS (sS (sA (sA (sA (sA (sA (sA (sA (sA (sA s 11 f11) 12 f12) 13 f13) 14 f14) 15 f15) 16 f16) 17 f17) 18 f18) 19 f19) 0 0) 25 k25) 33 k33) 34 k34) x2 o_1) (Nat.le_of_ble_eq_true rfl) rfl (Nat.le_of_ble_eq_true rfl) ?_
    rintro _ _ ⟨rfl, eq_4⟩
    refine JW.steq (s2 := sS (sS (sS (sS (sA (sA (sA (sA (sA (sA (sA (sA (sA s 11 f11) 12 f12) 13 f13) 14 f14) 15 f15) 16 f16) 17 f17) 18 f18) 19 f19) 0 0) 25 k25) 33 k33) 34 k34) eq_4 ?_
    refine JW.if_ne (tgt := 26) dX3_find_20 rfl (fun c_5 => ?_) (fun c_5 => ?_)
    · have K := K.1 c_5
      refine JW.aload_n dX3_find_26 rfl ?_
      refine JW.iload_n dX3_find_27 rfl ?_
      refine JW.iload_n dX3_find_28 rfl ?_
      obtain ⟨o_6, K⟩ := K
      refine JW.mcall (As := [vI x1, vI x2]) dX3_find_29 vX3_finds rfl q2057 (ctX3_finds b (sS (sS (sS (sS (sA (sA (sA (sA (sA (sA (sA (sA (sA s 11 f11) 12 f12) 13 f13) 14 f14) 15 f15) 16 f16) 17 f17) 18 f18) 19 f19) 0 0) 25 k25) 33 k33) 34 k34) x1 x2 o_6) (Nat.le_of_ble_eq_true rfl) rfl (Nat.le_of_ble_eq_true rfl) ?_
      rintro _ _ ⟨f_7, f_8, k_9, k_10, rfl, rfl, q_11⟩
      refine JW.steq (s2 := sS (sS (sS (sS (sA (sA (sA (sA (sA (sA (sA (sA (sA s 11 f_7) 12 f_8) 13 f13) 14 f14) 15 f15) 16 f16) 17 f17) 18 f18) 19 f19) 0 0) 25 k_9) 33 (fndM (s.2 6) x1 x2)) 34 k_10) (by simp only [sA_A, sS_S, sA_S, sA_lt, sS_lt, Nat.reduceLT, id_eq] <;> rfl) ?_
      replace K := K f_7 f_8 k_9 k_10 q_11
      refine JW.aload_n dX3_find_32 rfl ?_
      refine JW.mget (v := vI (fndM (s.2 6) x1 x2)) dX3_find_33 fX3_384 rfl ?_
      exact JW.ireturn dX3_find_36 rfl rfl ⟨_, rfl, K⟩
    · have K := K.2 c_5
      refine JW.bipush dX3_find_23 rfl ?_
      exact JW.ireturn dX3_find_25 rfl rfl ⟨_, rfl, K⟩
def QX3_find (s : MS) (a1 : Int) (a2 : Int) : Option AV → MS → Prop := fun v s' => ∃ (f11 : Int → Int) (f12 : Int → Int) (f13 : Int → Int) (f14 : Int → Int) (f15 : Int → Int) (f16 : Int → Int) (f17 : Int → Int) (f18 : Int → Int) (f19 : Int → Int) (k25 : Int) (k33 : Int) (k34 : Int), v = some (vI (rFind (s.2 6) a1 a2)) ∧ s' = sS (sS (sS (sS (sA (sA (sA (sA (sA (sA (sA (sA (sA s 11 f11) 12 f12) 13 f13) 14 f14) 15 f15) 16 f16) 17 f17) 18 f18) 19 f19) 0 (0)) 25 k25) 33 k33) 34 k34
theorem vX3_find_1 (s : MS) (a1 : Int) (a2 : Int) (hp : tOK (s.2 6)) : (tOK (s.2 6)) := by
  have hN := tOK_N hp
  (try simp only [bI_0, bI_n, Classical.not_not] at *)
  (try have hfb := fndM_b (s.2 6) a1 a2)
  (try unfold lex3)
  (try simp only [bI_0, bI_n, Classical.not_not] at *)
  (try simp (disch := omega) only [i32_id] at *)
  first | done | omega | ((repeat' (with_reducible apply And.intro)) <;> first | assumption | rfl | omega | (unfold rFind; rw [if_neg (by omega)]) | (unfold rFind; rw [if_pos (by omega)]) | grind [upI])
theorem vX3_find_2 (s : MS) (a1 : Int) (a2 : Int) (hp : tOK (s.2 6)) (o_1 : (tOK (s.2 6))) (c_3 : (bI (0 ≤ a1 ∧ a1 < (s.2 6) 2)) = 0) : (-2) = (rFind (s.2 6) a1 a2) := by
  have hN := tOK_N hp
  (try simp only [bI_0, bI_n, Classical.not_not] at *)
  (try have hfb := fndM_b (s.2 6) a1 a2)
  (try unfold lex3)
  (try simp only [bI_0, bI_n, Classical.not_not] at *)
  (try simp (disch := omega) only [i32_id] at *)
  first | done | omega | ((repeat' (with_reducible apply And.intro)) <;> first | assumption | rfl | omega | (unfold rFind; rw [if_neg (by omega)]) | (unfold rFind; rw [if_pos (by omega)]) | grind [upI])
theorem vX3_find_3 (s : MS) (a1 : Int) (a2 : Int) (hp : tOK (s.2 6)) (o_1 : (tOK (s.2 6))) (c_3 : ¬ (bI (0 ≤ a1 ∧ a1 < (s.2 6) 2)) = 0) (c_5 : ¬ (bI (0 ≤ a2 ∧ a2 < (s.2 6) 2)) = 0) : (tOK (s.2 6) ∧ (0 ≤ a1 ∧ a1 < (s.2 6) 2)) := by
  have hN := tOK_N hp
  (try simp only [bI_0, bI_n, Classical.not_not] at *)
  (try have hfb := fndM_b (s.2 6) a1 a2)
  (try unfold lex3)
  (try simp only [bI_0, bI_n, Classical.not_not] at *)
  (try simp (disch := omega) only [i32_id] at *)
  first | done | omega | ((repeat' (with_reducible apply And.intro)) <;> first | assumption | rfl | omega | (unfold rFind; rw [if_neg (by omega)]) | (unfold rFind; rw [if_pos (by omega)]) | grind [upI])
theorem vX3_find_4 (s : MS) (a1 : Int) (a2 : Int) (hp : tOK (s.2 6)) (o_1 : (tOK (s.2 6))) (c_3 : ¬ (bI (0 ≤ a1 ∧ a1 < (s.2 6) 2)) = 0) (c_5 : ¬ (bI (0 ≤ a2 ∧ a2 < (s.2 6) 2)) = 0) (o_6 : (tOK (s.2 6) ∧ (0 ≤ a1 ∧ a1 < (s.2 6) 2))) (f_7 : Int → Int) (f_8 : Int → Int) (k_9 : Int) (k_10 : Int) (q_11 : ((fndM (s.2 6) a1 a2 ≠ -1 → k_10 = fndR (s.2 6) a1 a2 ∧ 0 ≤ k_10 ∧ k_10 < 12 ^ (fndM (s.2 6) a1 a2).toNat))) : (fndM (s.2 6) a1 a2) = (rFind (s.2 6) a1 a2) := by
  have hN := tOK_N hp
  (try simp only [bI_0, bI_n, Classical.not_not] at *)
  (try have hfb := fndM_b (s.2 6) a1 a2)
  (try unfold lex3)
  (try simp only [bI_0, bI_n, Classical.not_not] at *)
  (try simp (disch := omega) only [i32_id] at *)
  first | done | omega | ((repeat' (with_reducible apply And.intro)) <;> first | assumption | rfl | omega | (unfold rFind; rw [if_neg (by omega)]) | (unfold rFind; rw [if_pos (by omega)]) | grind [upI])
theorem vX3_find_5 (s : MS) (a1 : Int) (a2 : Int) (hp : tOK (s.2 6)) (o_1 : (tOK (s.2 6))) (c_3 : ¬ (bI (0 ≤ a1 ∧ a1 < (s.2 6) 2)) = 0) (c_5 : (bI (0 ≤ a2 ∧ a2 < (s.2 6) 2)) = 0) : (-2) = (rFind (s.2 6) a1 a2) := by
  have hN := tOK_N hp
  (try simp only [bI_0, bI_n, Classical.not_not] at *)
  (try have hfb := fndM_b (s.2 6) a1 a2)
  (try unfold lex3)
  (try simp only [bI_0, bI_n, Classical.not_not] at *)
  (try simp (disch := omega) only [i32_id] at *)
  first | done | omega | ((repeat' (with_reducible apply And.intro)) <;> first | assumption | rfl | omega | (unfold rFind; rw [if_neg (by omega)]) | (unfold rFind; rw [if_pos (by omega)]) | grind [upI])
theorem ctX3_find (b : AH) (s : MS) (a1 : Int) (a2 : Int) (hp : tOK (s.2 6)) : MC mX3_find 8 b s [vI a1, vI a2] (QX3_find s a1 a2) := by
  refine MC.of (by decide) rfl (Nat.le_of_ble_eq_true rfl) (JW.steq (s2 := sS (sS (sS (sS (sA (sA (sA (sA (sA (sA (sA (sA (sA s 11 (s.2 11)) 12 (s.2 12)) 13 (s.2 13)) 14 (s.2 14)) 15 (s.2 15)) 16 (s.2 16)) 17 (s.2 17)) 18 (s.2 18)) 19 (s.2 19)) 0 (s.1 0)) 25 (s.1 25)) 33 (s.1 33)) 34 (s.1 34)) (by simp only [sA_id, sS_id]) ?_)
  refine bX3_find_0 b s a1 a2 (s.2 11) (s.2 12) (s.2 13) (s.2 14) (s.2 15) (s.2 16) (s.2 17) (s.2 18) (s.2 19) (s.1 0) (s.1 25) (s.1 33) (s.1 34) ?_
  have o_1 : (tOK (s.2 6)) := (vX3_find_1 s a1 a2 hp)
  refine ⟨o_1, ?_⟩
  refine ⟨fun c_3 => ?_, fun c_3 => ?_⟩
  · exact ⟨(s.2 11), (s.2 12), (s.2 13), (s.2 14), (s.2 15), (s.2 16), (s.2 17), (s.2 18), (s.2 19), (s.1 25), (s.1 33), (s.1 34), (rI_c (vX3_find_2 s a1 a2 hp o_1 c_3)), rfl⟩
  · refine ⟨fun c_5 => ?_, fun c_5 => ?_⟩
    · have o_6 : (tOK (s.2 6) ∧ (0 ≤ a1 ∧ a1 < (s.2 6) 2)) := (vX3_find_3 s a1 a2 hp o_1 c_3 c_5)
      refine ⟨o_6, ?_⟩
      intro f_7 f_8 k_9 k_10 q_11
      exact ⟨f_7, f_8, (s.2 13), (s.2 14), (s.2 15), (s.2 16), (s.2 17), (s.2 18), (s.2 19), k_9, (fndM (s.2 6) a1 a2), k_10, (rI_c (vX3_find_4 s a1 a2 hp o_1 c_3 c_5 o_6 f_7 f_8 k_9 k_10 q_11)), rfl⟩
    · exact ⟨(s.2 11), (s.2 12), (s.2 13), (s.2 14), (s.2 15), (s.2 16), (s.2 17), (s.2 18), (s.2 19), (s.1 25), (s.1 33), (s.1 34), (rI_c (vX3_find_5 s a1 a2 hp o_1 c_3 c_5)), rfl⟩
def HX3_found_0 (Q : Option AV → MS → Prop) (b : AH) (s : MS) (x1 : Int) (x2 : Int) (x3 : Int) (f11 : Int → Int) (f12 : Int → Int) (f13 : Int → Int) (f14 : Int → Int) (f15 : Int → Int) (f16 : Int → Int) (f17 : Int → Int) (f18 : Int → Int) (f19 : Int → Int) (k0 : Int) (k25 : Int) (k33 : Int) (k34 : Int) : Prop := MW mX3_found 8 Q b 0 [(0, vR 351), (1, vI x1), (2, vI x2), (3, vI x3)] [] (sS (sS (sS (sS (sA (sA (sA (sA (sA (sA (sA (sA (sA s 11 f11) 12 f12) 13 f13) 14 f14) 15 f15) 16 f16) 17 f17) 18 f18) 19 f19) 0 k0) 25 k25) 33 k33) 34 k34)
def HX3_found_64 (Q : Option AV → MS → Prop) (b : AH) (s : MS) (x3 : Int) (x4 : Int) (x5 : Int) (f11 : Int → Int) (f12 : Int → Int) (f13 : Int → Int) (f14 : Int → Int) (f15 : Int → Int) (f16 : Int → Int) (f17 : Int → Int) (f18 : Int → Int) (f19 : Int → Int) (k0 : Int) (k25 : Int) (k33 : Int) (k34 : Int) : Prop := MW mX3_found 8 Q b 64 [(3, vI x3), (4, vI x4), (5, vI x5)] [] (sS (sS (sS (sS (sA (sA (sA (sA (sA (sA (sA (sA (sA s 11 f11) 12 f12) 13 f13) 14 f14) 15 f15) 16 f16) 17 f17) 18 f18) 19 f19) 0 k0) 25 k25) 33 k33) 34 k34)
theorem bX3_found_0 {Q : Option AV → MS → Prop} (b : AH) (s : MS) (x1 : Int) (x2 : Int) (x3 : Int) (f11 : Int → Int) (f12 : Int → Int) (f13 : Int → Int) (f14 : Int → Int) (f15 : Int → Int) (f16 : Int → Int) (f17 : Int → Int) (f18 : Int → Int) (f19 : Int → Int) (k0 : Int) (k25 : Int) (k33 : Int) (k34 : Int) (K : (tOK (s.2 6)) ∧ (((bI (0 ≤ x1 ∧ x1 < (s.2 6) 2)) = 0 → Q (some (vI (-2))) (sS (sS (sS (sS (sA (sA (sA (sA (sA (sA (sA (sA (sA s 11 f11) 12 f12) 13 f13) 14 f14) 15 f15) 16 f16) 17 f17) 18 f18) 19 f19) 0 0) 25 k25) 33 k33) 34 k34)) ∧ (¬ (bI (0 ≤ x1 ∧ x1 < (s.2 6) 2)) = 0 → (¬ (bI (0 ≤ x2 ∧ x2 < (s.2 6) 2)) = 0 → (tOK (s.2 6) ∧ (0 ≤ x1 ∧ x1 < (s.2 6) 2)) ∧ ((∀ (f_7 : Int → Int) (f_8 : Int → Int) (k_9 : Int) (k_10 : Int), ((fndM (s.2 6) x1 x2 ≠ -1 → k_10 = fndR (s.2 6) x1 x2 ∧ 0 ≤ k_10 ∧ k_10 < 12 ^ (fndM (s.2 6) x1 x2).toNat)) → (¬ (bI ((0 : Int) ≤ x3 ∧ x3 ≤ (i32 ((fndM (s.2 6) x1 x2) - 1)))) = 0 → HX3_found_64 Q b s x3 k_10 (i32 ((fndM (s.2 6) x1 x2) - 1)) f_7 f_8 f13 f14 f15 f16 f17 f18 f19 0 k_9 (fndM (s.2 6) x1 x2) k_10) ∧ ((bI ((0 : Int) ≤ x3 ∧ x3 ≤ (i32 ((fndM (s.2 6) x1 x2) - 1)))) = 0 → Q (some (vI (-1))) (sS (sS (sS (sS (sA (sA (sA (sA (sA (sA (sA (sA (sA s 11 f_7) 12 f_8) 13 f13) 14 f14) 15 f15) 16 f16) 17 f17) 18 f18) 19 f19) 0 0) 25 k_9) 33 (fndM (s.2 6) x1 x2)) 34 k_10))))) ∧ ((bI (0 ≤ x2 ∧ x2 < (s.2 6) 2)) = 0 → Q (some (vI (-2))) (sS (sS (sS (sS (sA (sA (sA (sA (sA (sA (sA (sA (sA s 11 f11) 12 f12) 13 f13) 14 f14) 15 f15) 16 f16) 17 f17) 18 f18) 19 f19) 0 0) 25 k25) 33 k33) 34 k34))))) : HX3_found_0 Q b s x1 x2 x3 f11 f12 f13 f14 f15 f16 f17 f18 f19 k0 k25 k33 k34 := by
  refine JW.aload_n dX3_found_0 rfl ?_
  refine JW.iconst dX3_found_1 rfl ?_
  refine JW.mputI dX3_found_2 (pX3_77 _) rfl ?_
  refine JW.steq (s2 := sS (sS (sS (sS (sA (sA (sA (sA (sA (sA (sA (sA (sA s 11 f11) 12 f12) 13 f13) 14 f14) 15 f15) 16 f16) 17 f17) 18 f18) 19 f19) 0 0) 25 k25) 33 k33) 34 k34) (by simp only [sA_A, sS_S, sA_S, sA_lt, sS_lt, Nat.reduceLT, id_eq] <;> rfl) ?_
  refine JW.aload_n dX3_found_5 rfl ?_
  refine JW.iload_n dX3_found_6 rfl ?_
  refine JW.i2l dX3_found_7 ?_
  obtain ⟨o_1, K⟩ := K
  refine JW.mcall (As := [vL x1]) dX3_found_8 vX3_isNumber rfl q1806 (ctX3_isNumber b (sS (sS (sS (sS (sA (sA (sA (sA (sA (sA (sA (sA (sA s 11 f11) 12 f12) 13 f13) 14 f14) 15 f15) 16 f16) 17 f17) 18 f18) 19 f19) 0 0) 25 k25) 33 k33) 34 k34) x1 o_1) (Nat.le_of_ble_eq_true rfl) rfl (Nat.le_of_ble_eq_true rfl) ?_
  rintro _ _ ⟨rfl, eq_2⟩
  refine JW.steq (s2 := sS (sS (sS (sS (sA (sA (sA (sA (sA (sA (sA (sA (sA s 11 f11) 12 f12) 13 f13) 14 f14) 15 f15) 16 f16) 17 f17) 18 f18) 19 f19) 0 0) 25 k25) 33 k33) 34 k34) eq_2 ?_
  refine JW.if_eq (tgt := 23) dX3_found_11 rfl (fun c_3 => ?_) (fun c_3 => ?_)
  · have K := K.1 c_3
    refine JW.bipush dX3_found_23 rfl ?_
    exact JW.ireturn dX3_found_25 rfl rfl ⟨_, rfl, K⟩
  · have K := K.2 c_3
    refine JW.aload_n dX3_found_14 rfl ?_
    refine JW.iload_n dX3_found_15 rfl ?_
    refine JW.i2l dX3_found_16 ?_
    refine JW.mcall (As := [vL x2]) dX3_found_17 vX3_isNumber rfl q1806 (ctX3_isNumber b (sS (sS (sS (sS (sA (sA (sA (sA (sA (sA (sA (sA (sA s 11 f11) 12 f12) 13 f13) 14 f14) 15 f15) 16 f16) 17 f17) 18 f18) 19 f19) 0 0) 25 k25) 33 k33) 34 k34) x2 o_1) (Nat.le_of_ble_eq_true rfl) rfl (Nat.le_of_ble_eq_true rfl) ?_
    rintro _ _ ⟨rfl, eq_4⟩
    refine JW.steq (s2 := sS (sS (sS (sS (sA (sA (sA (sA (sA (sA (sA (sA (sA s 11 f11) 12 f12) 13 f13) 14 f14) 15 f15) 16 f16) 17 f17) 18 f18) 19 f19) 0 0) 25 k25) 33 k33) 34 k34) eq_4 ?_
    refine JW.if_ne (tgt := 26) dX3_found_20 rfl (fun c_5 => ?_) (fun c_5 => ?_)
    · have K := K.1 c_5
      refine JW.aload_n dX3_found_26 rfl ?_
      refine JW.iload_n dX3_found_27 rfl ?_
      refine JW.iload_n dX3_found_28 rfl ?_
      obtain ⟨o_6, K⟩ := K
      refine JW.mcall (As := [vI x1, vI x2]) dX3_found_29 vX3_finds rfl q2057 (ctX3_finds b (sS (sS (sS (sS (sA (sA (sA (sA (sA (sA (sA (sA (sA s 11 f11) 12 f12) 13 f13) 14 f14) 15 f15) 16 f16) 17 f17) 18 f18) 19 f19) 0 0) 25 k25) 33 k33) 34 k34) x1 x2 o_6) (Nat.le_of_ble_eq_true rfl) rfl (Nat.le_of_ble_eq_true rfl) ?_
      rintro _ _ ⟨f_7, f_8, k_9, k_10, rfl, rfl, q_11⟩
      refine JW.steq (s2 := sS (sS (sS (sS (sA (sA (sA (sA (sA (sA (sA (sA (sA s 11 f_7) 12 f_8) 13 f13) 14 f14) 15 f15) 16 f16) 17 f17) 18 f18) 19 f19) 0 0) 25 k_9) 33 (fndM (s.2 6) x1 x2)) 34 k_10) (by simp only [sA_A, sS_S, sA_S, sA_lt, sS_lt, Nat.reduceLT, id_eq] <;> rfl) ?_
      replace K := K f_7 f_8 k_9 k_10 q_11
      refine JW.iload_n dX3_found_32 rfl ?_
      refine JW.i2l dX3_found_33 ?_
      refine JW.lconst (x := 0) dX3_found_34 rfl ?_
      refine JW.aload_n dX3_found_35 rfl ?_
      refine JW.mget (v := vI (fndM (s.2 6) x1 x2)) dX3_found_36 fX3_384 rfl ?_
      refine JW.iconst dX3_found_39 rfl ?_
      refine JW.isub dX3_found_40 ?_
      refine JW.i2l dX3_found_41 ?_
      refine JW.mcallS (As := [vL x3, vL 0, vL (i32 ((fndM (s.2 6) x1 x2) - 1))]) dX3_found_42 vX3_in q1632 (ctX3_in b (sS (sS (sS (sS (sA (sA (sA (sA (sA (sA (sA (sA (sA s 11 f_7) 12 f_8) 13 f13) 14 f14) 15 f15) 16 f16) 17 f17) 18 f18) 19 f19) 0 0) 25 k_9) 33 (fndM (s.2 6) x1 x2)) 34 k_10) x3 0 (i32 ((fndM (s.2 6) x1 x2) - 1))) (Nat.le_of_ble_eq_true rfl) rfl (Nat.le_of_ble_eq_true rfl) ?_
      rintro _ _ ⟨rfl, eq_12⟩
      refine JW.steq (s2 := sS (sS (sS (sS (sA (sA (sA (sA (sA (sA (sA (sA (sA s 11 f_7) 12 f_8) 13 f13) 14 f14) 15 f15) 16 f16) 17 f17) 18 f18) 19 f19) 0 0) 25 k_9) 33 (fndM (s.2 6) x1 x2)) 34 k_10) eq_12 ?_
      refine JW.if_ne (tgt := 50) dX3_found_45 rfl (fun c_13 => ?_) (fun c_13 => ?_)
      · have K := K.1 c_13
        refine JW.aload_n dX3_found_50 rfl ?_
        refine JW.mget (v := vI k_10) dX3_found_51 fX3_387 rfl ?_
        refine JW.istore (ls' := [(0, vR 351), (1, vI x1), (2, vI x2), (3, vI x3), (4, vI k_10)]) dX3_found_54 (Nat.le_of_ble_eq_true rfl) rfl ?_
        refine JW.aload_n dX3_found_56 rfl ?_
        refine JW.mget (v := vI (fndM (s.2 6) x1 x2)) dX3_found_57 fX3_384 rfl ?_
        refine JW.iconst dX3_found_60 rfl ?_
        refine JW.isub dX3_found_61 ?_
        refine JW.istore (ls' := [(0, vR 351), (1, vI x1), (2, vI x2), (3, vI x3), (4, vI k_10), (5, vI (i32 ((fndM (s.2 6) x1 x2) - 1)))]) dX3_found_62 (Nat.le_of_ble_eq_true rfl) rfl ?_
        exact JW.pick [3, 4, 5] rfl K
      · have K := K.2 c_13
        refine JW.iconst dX3_found_48 rfl ?_
        exact JW.ireturn dX3_found_49 rfl rfl ⟨_, rfl, K⟩
    · have K := K.2 c_5
      refine JW.bipush dX3_found_23 rfl ?_
      exact JW.ireturn dX3_found_25 rfl rfl ⟨_, rfl, K⟩
theorem bX3_found_64 {Q : Option AV → MS → Prop} (b : AH) (s : MS) (x3 : Int) (x4 : Int) (x5 : Int) (f11 : Int → Int) (f12 : Int → Int) (f13 : Int → Int) (f14 : Int → Int) (f15 : Int → Int) (f16 : Int → Int) (f17 : Int → Int) (f18 : Int → Int) (f19 : Int → Int) (k0 : Int) (k25 : Int) (k33 : Int) (k34 : Int) (K : (x5 ≤ x3 → Q (some (vI (i32 (Int.tmod x4 12)))) (sS (sS (sS (sS (sA (sA (sA (sA (sA (sA (sA (sA (sA s 11 f11) 12 f12) 13 f13) 14 f14) 15 f15) 16 f16) 17 f17) 18 f18) 19 f19) 0 k0) 25 k25) 33 k33) 34 k34)) ∧ (¬ x5 ≤ x3 → HX3_found_64 Q b s x3 (i32 (Int.tdiv x4 12)) (i32 (x5 + (-1))) f11 f12 f13 f14 f15 f16 f17 f18 f19 k0 k25 k33 k34)) : HX3_found_64 Q b s x3 x4 x5 f11 f12 f13 f14 f15 f16 f17 f18 f19 k0 k25 k33 k34 := by
  refine JW.iload dX3_found_64 rfl ?_
  refine JW.iload_n dX3_found_66 rfl ?_
  refine JW.icmp_le (tgt := 83) dX3_found_67 rfl (fun c_1 => ?_) (fun c_1 => ?_)
  · have K := K.1 c_1
    refine JW.iload dX3_found_83 rfl ?_
    refine JW.bipush dX3_found_85 rfl ?_
    refine JW.irem dX3_found_87 (by decide) ?_
    exact JW.ireturn dX3_found_88 rfl rfl ⟨_, rfl, K⟩
  · have K := K.2 c_1
    refine JW.iload dX3_found_70 rfl ?_
    refine JW.bipush dX3_found_72 rfl ?_
    refine JW.idiv dX3_found_74 (by decide) ?_
    refine JW.istore (ls' := [(3, vI x3), (4, vI (i32 (Int.tdiv x4 12))), (5, vI x5)]) dX3_found_75 (Nat.le_of_ble_eq_true rfl) rfl ?_
    refine JW.iinc (ls' := [(3, vI x3), (4, vI (i32 (Int.tdiv x4 12))), (5, vI (i32 (x5 + (-1))))]) dX3_found_77 (Nat.le_of_ble_eq_true rfl) rfl rfl ?_
    refine JW.goto (tgt := 64) dX3_found_80 rfl ?_
    exact JW.pick [3, 4, 5] rfl K
def QX3_found (s : MS) (a1 : Int) (a2 : Int) (a3 : Int) : Option AV → MS → Prop := fun v s' => ∃ (f11 : Int → Int) (f12 : Int → Int) (f13 : Int → Int) (f14 : Int → Int) (f15 : Int → Int) (f16 : Int → Int) (f17 : Int → Int) (f18 : Int → Int) (f19 : Int → Int) (k25 : Int) (k33 : Int) (k34 : Int), v = some (vI (rFound (s.2 6) a1 a2 a3)) ∧ s' = sS (sS (sS (sS (sA (sA (sA (sA (sA (sA (sA (sA (sA s 11 f11) 12 f12) 13 f13) 14 f14) 15 f15) 16 f16) 17 f17) 18 f18) 19 f19) 0 (0)) 25 k25) 33 k33) 34 k34
theorem vX3_found_1 (s : MS) (a1 : Int) (a2 : Int) (a3 : Int) (hp : tOK (s.2 6)) (x3 : Int) (x4 : Int) (x5 : Int) (f11 : Int → Int) (f12 : Int → Int) (f13 : Int → Int) (f14 : Int → Int) (f15 : Int → Int) (f16 : Int → Int) (f17 : Int → Int) (f18 : Int → Int) (f19 : Int → Int) (k0 : Int) (k25 : Int) (k33 : Int) (k34 : Int) (hI : k0 = 0 ∧ (x3 = a3 ∧ 0 ≤ a1 ∧ a1 < s.2 6 2 ∧ 0 ≤ a2 ∧ a2 < s.2 6 2) ∧ (0 ≤ a3 ∧ a3 < fndM (s.2 6) a1 a2) ∧ (a3 ≤ x5 ∧ x5 ≤ fndM (s.2 6) a1 a2 - 1) ∧ (0 ≤ fndR (s.2 6) a1 a2 ∧ fndR (s.2 6) a1 a2 < 12 ^ (fndM (s.2 6) a1 a2).toNat) ∧ x4 = fndR (s.2 6) a1 a2 / 12 ^ (fndM (s.2 6) a1 a2 - 1 - x5).toNat) (c_1 : x5 ≤ x3) : k0 = (0) := by
  have hN := tOK_N hp
  (try simp only [bI_0, bI_n, Classical.not_not] at *)
  (try have hfb := fndM_b (s.2 6) a1 a2)
  (try have hfr := row_lt (r := fndR (s.2 6) a1 a2) (j := fndM (s.2 6) a1 a2) hI.2.2.2.2.1.2 (by omega) (by omega))
  (try have hdd := row_dd (r := fndR (s.2 6) a1 a2) (j := fndM (s.2 6) a1 a2 - 1 - x5) hI.2.2.2.2.1.1 hfr (by omega) (by omega))
  (try rw [← hI.2.2.2.2.2] at hdd)
  (try unfold lex3)
  (try simp only [bI_0, bI_n, Classical.not_not] at *)
  (try simp (disch := omega) only [i32_id] at *)
  first | done | omega | ((repeat' (with_reducible apply And.intro)) <;> first | assumption | rfl | omega | (exact hI.1) | (unfold rFound; rw [if_neg (by omega)]) | (exact hI.2.2.2.2.1.1) | (exact hI.2.2.2.2.1.2) | (unfold rFound; rw [if_pos (by omega), if_neg (by omega)]) | (rw [hdd.1, show fndM (s.2 6) a1 a2 - 1 - x5 + 1 = fndM (s.2 6) a1 a2 - 1 - (x5 + -1) by omega]) | (rw [hdd.2, hI.2.2.2.2.2, show x5 = a3 by omega]; unfold rFound; rw [if_pos (by omega), if_pos (by omega)]) | grind [upI])
theorem vX3_found_2 (s : MS) (a1 : Int) (a2 : Int) (a3 : Int) (hp : tOK (s.2 6)) (x3 : Int) (x4 : Int) (x5 : Int) (f11 : Int → Int) (f12 : Int → Int) (f13 : Int → Int) (f14 : Int → Int) (f15 : Int → Int) (f16 : Int → Int) (f17 : Int → Int) (f18 : Int → Int) (f19 : Int → Int) (k0 : Int) (k25 : Int) (k33 : Int) (k34 : Int) (hI : k0 = 0 ∧ (x3 = a3 ∧ 0 ≤ a1 ∧ a1 < s.2 6 2 ∧ 0 ≤ a2 ∧ a2 < s.2 6 2) ∧ (0 ≤ a3 ∧ a3 < fndM (s.2 6) a1 a2) ∧ (a3 ≤ x5 ∧ x5 ≤ fndM (s.2 6) a1 a2 - 1) ∧ (0 ≤ fndR (s.2 6) a1 a2 ∧ fndR (s.2 6) a1 a2 < 12 ^ (fndM (s.2 6) a1 a2).toNat) ∧ x4 = fndR (s.2 6) a1 a2 / 12 ^ (fndM (s.2 6) a1 a2 - 1 - x5).toNat) (c_1 : x5 ≤ x3) : (i32 (Int.tmod x4 12)) = (rFound (s.2 6) a1 a2 a3) := by
  have hN := tOK_N hp
  (try simp only [bI_0, bI_n, Classical.not_not] at *)
  (try have hfb := fndM_b (s.2 6) a1 a2)
  (try have hfr := row_lt (r := fndR (s.2 6) a1 a2) (j := fndM (s.2 6) a1 a2) hI.2.2.2.2.1.2 (by omega) (by omega))
  (try have hdd := row_dd (r := fndR (s.2 6) a1 a2) (j := fndM (s.2 6) a1 a2 - 1 - x5) hI.2.2.2.2.1.1 hfr (by omega) (by omega))
  (try rw [← hI.2.2.2.2.2] at hdd)
  (try unfold lex3)
  (try simp only [bI_0, bI_n, Classical.not_not] at *)
  (try simp (disch := omega) only [i32_id] at *)
  first | done | omega | ((repeat' (with_reducible apply And.intro)) <;> first | assumption | rfl | omega | (exact hI.1) | (unfold rFound; rw [if_neg (by omega)]) | (exact hI.2.2.2.2.1.1) | (exact hI.2.2.2.2.1.2) | (unfold rFound; rw [if_pos (by omega), if_neg (by omega)]) | (rw [hdd.1, show fndM (s.2 6) a1 a2 - 1 - x5 + 1 = fndM (s.2 6) a1 a2 - 1 - (x5 + -1) by omega]) | (rw [hdd.2, hI.2.2.2.2.2, show x5 = a3 by omega]; unfold rFound; rw [if_pos (by omega), if_pos (by omega)]) | grind [upI])
theorem vX3_found_3 (s : MS) (a1 : Int) (a2 : Int) (a3 : Int) (hp : tOK (s.2 6)) (x3 : Int) (x4 : Int) (x5 : Int) (f11 : Int → Int) (f12 : Int → Int) (f13 : Int → Int) (f14 : Int → Int) (f15 : Int → Int) (f16 : Int → Int) (f17 : Int → Int) (f18 : Int → Int) (f19 : Int → Int) (k0 : Int) (k25 : Int) (k33 : Int) (k34 : Int) (hI : k0 = 0 ∧ (x3 = a3 ∧ 0 ≤ a1 ∧ a1 < s.2 6 2 ∧ 0 ≤ a2 ∧ a2 < s.2 6 2) ∧ (0 ≤ a3 ∧ a3 < fndM (s.2 6) a1 a2) ∧ (a3 ≤ x5 ∧ x5 ≤ fndM (s.2 6) a1 a2 - 1) ∧ (0 ≤ fndR (s.2 6) a1 a2 ∧ fndR (s.2 6) a1 a2 < 12 ^ (fndM (s.2 6) a1 a2).toNat) ∧ x4 = fndR (s.2 6) a1 a2 / 12 ^ (fndM (s.2 6) a1 a2 - 1 - x5).toNat) (c_1 : ¬ x5 ≤ x3) : k0 = 0 ∧ (x3 = a3 ∧ 0 ≤ a1 ∧ a1 < s.2 6 2 ∧ 0 ≤ a2 ∧ a2 < s.2 6 2) ∧ (0 ≤ a3 ∧ a3 < fndM (s.2 6) a1 a2) ∧ (a3 ≤ (i32 (x5 + (-1))) ∧ (i32 (x5 + (-1))) ≤ fndM (s.2 6) a1 a2 - 1) ∧ (0 ≤ fndR (s.2 6) a1 a2 ∧ fndR (s.2 6) a1 a2 < 12 ^ (fndM (s.2 6) a1 a2).toNat) ∧ (i32 (Int.tdiv x4 12)) = fndR (s.2 6) a1 a2 / 12 ^ (fndM (s.2 6) a1 a2 - 1 - (i32 (x5 + (-1)))).toNat := by
  have hN := tOK_N hp
  (try simp only [bI_0, bI_n, Classical.not_not] at *)
  (try have hfb := fndM_b (s.2 6) a1 a2)
  (try have hfr := row_lt (r := fndR (s.2 6) a1 a2) (j := fndM (s.2 6) a1 a2) hI.2.2.2.2.1.2 (by omega) (by omega))
  (try have hdd := row_dd (r := fndR (s.2 6) a1 a2) (j := fndM (s.2 6) a1 a2 - 1 - x5) hI.2.2.2.2.1.1 hfr (by omega) (by omega))
  (try rw [← hI.2.2.2.2.2] at hdd)
  (try unfold lex3)
  (try simp only [bI_0, bI_n, Classical.not_not] at *)
  (try simp (disch := omega) only [i32_id] at *)
  first | done | omega | ((repeat' (with_reducible apply And.intro)) <;> first | assumption | rfl | omega | (exact hI.1) | (unfold rFound; rw [if_neg (by omega)]) | (exact hI.2.2.2.2.1.1) | (exact hI.2.2.2.2.1.2) | (unfold rFound; rw [if_pos (by omega), if_neg (by omega)]) | (rw [hdd.1, show fndM (s.2 6) a1 a2 - 1 - x5 + 1 = fndM (s.2 6) a1 a2 - 1 - (x5 + -1) by omega]) | (rw [hdd.2, hI.2.2.2.2.2, show x5 = a3 by omega]; unfold rFound; rw [if_pos (by omega), if_pos (by omega)]) | grind [upI])
theorem vX3_found_4 (s : MS) (a1 : Int) (a2 : Int) (a3 : Int) (hp : tOK (s.2 6)) (x3 : Int) (x4 : Int) (x5 : Int) (f11 : Int → Int) (f12 : Int → Int) (f13 : Int → Int) (f14 : Int → Int) (f15 : Int → Int) (f16 : Int → Int) (f17 : Int → Int) (f18 : Int → Int) (f19 : Int → Int) (k0 : Int) (k25 : Int) (k33 : Int) (k34 : Int) (hI : k0 = 0 ∧ (x3 = a3 ∧ 0 ≤ a1 ∧ a1 < s.2 6 2 ∧ 0 ≤ a2 ∧ a2 < s.2 6 2) ∧ (0 ≤ a3 ∧ a3 < fndM (s.2 6) a1 a2) ∧ (a3 ≤ x5 ∧ x5 ≤ fndM (s.2 6) a1 a2 - 1) ∧ (0 ≤ fndR (s.2 6) a1 a2 ∧ fndR (s.2 6) a1 a2 < 12 ^ (fndM (s.2 6) a1 a2).toNat) ∧ x4 = fndR (s.2 6) a1 a2 / 12 ^ (fndM (s.2 6) a1 a2 - 1 - x5).toNat) (c_1 : ¬ x5 ≤ x3) : lex3 0 0 (((i32 (x5 + (-1))) - a3).toNat) 0 0 ((x5 - a3).toNat) := by
  have hN := tOK_N hp
  (try simp only [bI_0, bI_n, Classical.not_not] at *)
  (try have hfb := fndM_b (s.2 6) a1 a2)
  (try have hfr := row_lt (r := fndR (s.2 6) a1 a2) (j := fndM (s.2 6) a1 a2) hI.2.2.2.2.1.2 (by omega) (by omega))
  (try have hdd := row_dd (r := fndR (s.2 6) a1 a2) (j := fndM (s.2 6) a1 a2 - 1 - x5) hI.2.2.2.2.1.1 hfr (by omega) (by omega))
  (try rw [← hI.2.2.2.2.2] at hdd)
  (try unfold lex3)
  (try simp only [bI_0, bI_n, Classical.not_not] at *)
  (try simp (disch := omega) only [i32_id] at *)
  first | done | omega | ((repeat' (with_reducible apply And.intro)) <;> first | assumption | rfl | omega | (exact hI.1) | (unfold rFound; rw [if_neg (by omega)]) | (exact hI.2.2.2.2.1.1) | (exact hI.2.2.2.2.1.2) | (unfold rFound; rw [if_pos (by omega), if_neg (by omega)]) | (rw [hdd.1, show fndM (s.2 6) a1 a2 - 1 - x5 + 1 = fndM (s.2 6) a1 a2 - 1 - (x5 + -1) by omega]) | (rw [hdd.2, hI.2.2.2.2.2, show x5 = a3 by omega]; unfold rFound; rw [if_pos (by omega), if_pos (by omega)]) | grind [upI])
theorem vX3_found_5 (s : MS) (a1 : Int) (a2 : Int) (a3 : Int) (hp : tOK (s.2 6)) : (tOK (s.2 6)) := by
  have hN := tOK_N hp
  (try simp only [bI_0, bI_n, Classical.not_not] at *)
  (try have hfb := fndM_b (s.2 6) a1 a2)
  (try have hfr := row_lt (r := fndR (s.2 6) a1 a2) (j := fndM (s.2 6) a1 a2) hI.2.2.2.2.1.2 (by omega) (by omega))
  (try have hdd := row_dd (r := fndR (s.2 6) a1 a2) (j := fndM (s.2 6) a1 a2 - 1 - x5) hI.2.2.2.2.1.1 hfr (by omega) (by omega))
  (try rw [← hI.2.2.2.2.2] at hdd)
  (try unfold lex3)
  (try simp only [bI_0, bI_n, Classical.not_not] at *)
  (try simp (disch := omega) only [i32_id] at *)
  first | done | omega | ((repeat' (with_reducible apply And.intro)) <;> first | assumption | rfl | omega | (exact hI.1) | (unfold rFound; rw [if_neg (by omega)]) | (exact hI.2.2.2.2.1.1) | (exact hI.2.2.2.2.1.2) | (unfold rFound; rw [if_pos (by omega), if_neg (by omega)]) | (rw [hdd.1, show fndM (s.2 6) a1 a2 - 1 - x5 + 1 = fndM (s.2 6) a1 a2 - 1 - (x5 + -1) by omega]) | (rw [hdd.2, hI.2.2.2.2.2, show x5 = a3 by omega]; unfold rFound; rw [if_pos (by omega), if_pos (by omega)]) | grind [upI])
theorem vX3_found_6 (s : MS) (a1 : Int) (a2 : Int) (a3 : Int) (hp : tOK (s.2 6)) (o_1 : (tOK (s.2 6))) (c_3 : (bI (0 ≤ a1 ∧ a1 < (s.2 6) 2)) = 0) : (-2) = (rFound (s.2 6) a1 a2 a3) := by
  have hN := tOK_N hp
  (try simp only [bI_0, bI_n, Classical.not_not] at *)
  (try have hfb := fndM_b (s.2 6) a1 a2)
  (try have hfr := row_lt (r := fndR (s.2 6) a1 a2) (j := fndM (s.2 6) a1 a2) hI.2.2.2.2.1.2 (by omega) (by omega))
  (try have hdd := row_dd (r := fndR (s.2 6) a1 a2) (j := fndM (s.2 6) a1 a2 - 1 - x5) hI.2.2.2.2.1.1 hfr (by omega) (by omega))
  (try rw [← hI.2.2.2.2.2] at hdd)
  (try unfold lex3)
  (try simp only [bI_0, bI_n, Classical.not_not] at *)
  (try simp (disch := omega) only [i32_id] at *)
  first | done | omega | ((repeat' (with_reducible apply And.intro)) <;> first | assumption | rfl | omega | (exact hI.1) | (unfold rFound; rw [if_neg (by omega)]) | (exact hI.2.2.2.2.1.1) | (exact hI.2.2.2.2.1.2) | (unfold rFound; rw [if_pos (by omega), if_neg (by omega)]) | (rw [hdd.1, show fndM (s.2 6) a1 a2 - 1 - x5 + 1 = fndM (s.2 6) a1 a2 - 1 - (x5 + -1) by omega]) | (rw [hdd.2, hI.2.2.2.2.2, show x5 = a3 by omega]; unfold rFound; rw [if_pos (by omega), if_pos (by omega)]) | grind [upI])
theorem vX3_found_7 (s : MS) (a1 : Int) (a2 : Int) (a3 : Int) (hp : tOK (s.2 6)) (o_1 : (tOK (s.2 6))) (c_3 : ¬ (bI (0 ≤ a1 ∧ a1 < (s.2 6) 2)) = 0) (c_5 : ¬ (bI (0 ≤ a2 ∧ a2 < (s.2 6) 2)) = 0) : (tOK (s.2 6) ∧ (0 ≤ a1 ∧ a1 < (s.2 6) 2)) := by
  have hN := tOK_N hp
  (try simp only [bI_0, bI_n, Classical.not_not] at *)
  (try have hfb := fndM_b (s.2 6) a1 a2)
  (try have hfr := row_lt (r := fndR (s.2 6) a1 a2) (j := fndM (s.2 6) a1 a2) hI.2.2.2.2.1.2 (by omega) (by omega))
  (try have hdd := row_dd (r := fndR (s.2 6) a1 a2) (j := fndM (s.2 6) a1 a2 - 1 - x5) hI.2.2.2.2.1.1 hfr (by omega) (by omega))
  (try rw [← hI.2.2.2.2.2] at hdd)
  (try unfold lex3)
  (try simp only [bI_0, bI_n, Classical.not_not] at *)
  (try simp (disch := omega) only [i32_id] at *)
  first | done | omega | ((repeat' (with_reducible apply And.intro)) <;> first | assumption | rfl | omega | (exact hI.1) | (unfold rFound; rw [if_neg (by omega)]) | (exact hI.2.2.2.2.1.1) | (exact hI.2.2.2.2.1.2) | (unfold rFound; rw [if_pos (by omega), if_neg (by omega)]) | (rw [hdd.1, show fndM (s.2 6) a1 a2 - 1 - x5 + 1 = fndM (s.2 6) a1 a2 - 1 - (x5 + -1) by omega]) | (rw [hdd.2, hI.2.2.2.2.2, show x5 = a3 by omega]; unfold rFound; rw [if_pos (by omega), if_pos (by omega)]) | grind [upI])
theorem vX3_found_8 (s : MS) (a1 : Int) (a2 : Int) (a3 : Int) (hp : tOK (s.2 6)) (o_1 : (tOK (s.2 6))) (c_3 : ¬ (bI (0 ≤ a1 ∧ a1 < (s.2 6) 2)) = 0) (c_5 : ¬ (bI (0 ≤ a2 ∧ a2 < (s.2 6) 2)) = 0) (o_6 : (tOK (s.2 6) ∧ (0 ≤ a1 ∧ a1 < (s.2 6) 2))) (f_7 : Int → Int) (f_8 : Int → Int) (k_9 : Int) (k_10 : Int) (q_11 : ((fndM (s.2 6) a1 a2 ≠ -1 → k_10 = fndR (s.2 6) a1 a2 ∧ 0 ≤ k_10 ∧ k_10 < 12 ^ (fndM (s.2 6) a1 a2).toNat))) (c_13 : ¬ (bI ((0 : Int) ≤ a3 ∧ a3 ≤ (i32 ((fndM (s.2 6) a1 a2) - 1)))) = 0) : (0 : Int) = 0 ∧ (a3 = a3 ∧ 0 ≤ a1 ∧ a1 < s.2 6 2 ∧ 0 ≤ a2 ∧ a2 < s.2 6 2) ∧ (0 ≤ a3 ∧ a3 < fndM (s.2 6) a1 a2) ∧ (a3 ≤ (i32 ((fndM (s.2 6) a1 a2) - 1)) ∧ (i32 ((fndM (s.2 6) a1 a2) - 1)) ≤ fndM (s.2 6) a1 a2 - 1) ∧ (0 ≤ fndR (s.2 6) a1 a2 ∧ fndR (s.2 6) a1 a2 < 12 ^ (fndM (s.2 6) a1 a2).toNat) ∧ k_10 = fndR (s.2 6) a1 a2 / 12 ^ (fndM (s.2 6) a1 a2 - 1 - (i32 ((fndM (s.2 6) a1 a2) - 1))).toNat := by
  have hN := tOK_N hp
  (try simp only [bI_0, bI_n, Classical.not_not] at *)
  (try have hfb := fndM_b (s.2 6) a1 a2)
  (try have hfr := row_lt (r := fndR (s.2 6) a1 a2) (j := fndM (s.2 6) a1 a2) hI.2.2.2.2.1.2 (by omega) (by omega))
  (try have hdd := row_dd (r := fndR (s.2 6) a1 a2) (j := fndM (s.2 6) a1 a2 - 1 - x5) hI.2.2.2.2.1.1 hfr (by omega) (by omega))
  (try rw [← hI.2.2.2.2.2] at hdd)
  (try unfold lex3)
  (try simp only [bI_0, bI_n, Classical.not_not] at *)
  (try simp (disch := omega) only [i32_id] at *)
  first | done | omega | ((repeat' (with_reducible apply And.intro)) <;> first | assumption | rfl | omega | (exact hI.1) | (unfold rFound; rw [if_neg (by omega)]) | (exact hI.2.2.2.2.1.1) | (exact hI.2.2.2.2.1.2) | (unfold rFound; rw [if_pos (by omega), if_neg (by omega)]) | (rw [hdd.1, show fndM (s.2 6) a1 a2 - 1 - x5 + 1 = fndM (s.2 6) a1 a2 - 1 - (x5 + -1) by omega]) | (rw [hdd.2, hI.2.2.2.2.2, show x5 = a3 by omega]; unfold rFound; rw [if_pos (by omega), if_pos (by omega)]) | grind [upI])
theorem vX3_found_9 (s : MS) (a1 : Int) (a2 : Int) (a3 : Int) (hp : tOK (s.2 6)) (o_1 : (tOK (s.2 6))) (c_3 : ¬ (bI (0 ≤ a1 ∧ a1 < (s.2 6) 2)) = 0) (c_5 : ¬ (bI (0 ≤ a2 ∧ a2 < (s.2 6) 2)) = 0) (o_6 : (tOK (s.2 6) ∧ (0 ≤ a1 ∧ a1 < (s.2 6) 2))) (f_7 : Int → Int) (f_8 : Int → Int) (k_9 : Int) (k_10 : Int) (q_11 : ((fndM (s.2 6) a1 a2 ≠ -1 → k_10 = fndR (s.2 6) a1 a2 ∧ 0 ≤ k_10 ∧ k_10 < 12 ^ (fndM (s.2 6) a1 a2).toNat))) (c_13 : (bI ((0 : Int) ≤ a3 ∧ a3 ≤ (i32 ((fndM (s.2 6) a1 a2) - 1)))) = 0) : (-1) = (rFound (s.2 6) a1 a2 a3) := by
  have hN := tOK_N hp
  (try simp only [bI_0, bI_n, Classical.not_not] at *)
  (try have hfb := fndM_b (s.2 6) a1 a2)
  (try have hfr := row_lt (r := fndR (s.2 6) a1 a2) (j := fndM (s.2 6) a1 a2) hI.2.2.2.2.1.2 (by omega) (by omega))
  (try have hdd := row_dd (r := fndR (s.2 6) a1 a2) (j := fndM (s.2 6) a1 a2 - 1 - x5) hI.2.2.2.2.1.1 hfr (by omega) (by omega))
  (try rw [← hI.2.2.2.2.2] at hdd)
  (try unfold lex3)
  (try simp only [bI_0, bI_n, Classical.not_not] at *)
  (try simp (disch := omega) only [i32_id] at *)
  first | done | omega | ((repeat' (with_reducible apply And.intro)) <;> first | assumption | rfl | omega | (exact hI.1) | (unfold rFound; rw [if_neg (by omega)]) | (exact hI.2.2.2.2.1.1) | (exact hI.2.2.2.2.1.2) | (unfold rFound; rw [if_pos (by omega), if_neg (by omega)]) | (rw [hdd.1, show fndM (s.2 6) a1 a2 - 1 - x5 + 1 = fndM (s.2 6) a1 a2 - 1 - (x5 + -1) by omega]) | (rw [hdd.2, hI.2.2.2.2.2, show x5 = a3 by omega]; unfold rFound; rw [if_pos (by omega), if_pos (by omega)]) | grind [upI])
theorem vX3_found_10 (s : MS) (a1 : Int) (a2 : Int) (a3 : Int) (hp : tOK (s.2 6)) (o_1 : (tOK (s.2 6))) (c_3 : ¬ (bI (0 ≤ a1 ∧ a1 < (s.2 6) 2)) = 0) (c_5 : (bI (0 ≤ a2 ∧ a2 < (s.2 6) 2)) = 0) : (-2) = (rFound (s.2 6) a1 a2 a3) := by
  have hN := tOK_N hp
  (try simp only [bI_0, bI_n, Classical.not_not] at *)
  (try have hfb := fndM_b (s.2 6) a1 a2)
  (try have hfr := row_lt (r := fndR (s.2 6) a1 a2) (j := fndM (s.2 6) a1 a2) hI.2.2.2.2.1.2 (by omega) (by omega))
  (try have hdd := row_dd (r := fndR (s.2 6) a1 a2) (j := fndM (s.2 6) a1 a2 - 1 - x5) hI.2.2.2.2.1.1 hfr (by omega) (by omega))
  (try rw [← hI.2.2.2.2.2] at hdd)
  (try unfold lex3)
  (try simp only [bI_0, bI_n, Classical.not_not] at *)
  (try simp (disch := omega) only [i32_id] at *)
  first | done | omega | ((repeat' (with_reducible apply And.intro)) <;> first | assumption | rfl | omega | (exact hI.1) | (unfold rFound; rw [if_neg (by omega)]) | (exact hI.2.2.2.2.1.1) | (exact hI.2.2.2.2.1.2) | (unfold rFound; rw [if_pos (by omega), if_neg (by omega)]) | (rw [hdd.1, show fndM (s.2 6) a1 a2 - 1 - x5 + 1 = fndM (s.2 6) a1 a2 - 1 - (x5 + -1) by omega]) | (rw [hdd.2, hI.2.2.2.2.2, show x5 = a3 by omega]; unfold rFound; rw [if_pos (by omega), if_pos (by omega)]) | grind [upI])
theorem allX3_found (b : AH) (s : MS) (a1 : Int) (a2 : Int) (a3 : Int) (hp : tOK (s.2 6)) : ∀ m1 m2 m3 : Nat, (∀ (x3 : Int) (x4 : Int) (x5 : Int) (f11 : Int → Int) (f12 : Int → Int) (f13 : Int → Int) (f14 : Int → Int) (f15 : Int → Int) (f16 : Int → Int) (f17 : Int → Int) (f18 : Int → Int) (f19 : Int → Int) (k0 : Int) (k25 : Int) (k33 : Int) (k34 : Int), m1 = 0 → m2 = 0 → m3 = ((x5 - a3).toNat) → (k0 = 0 ∧ (x3 = a3 ∧ 0 ≤ a1 ∧ a1 < s.2 6 2 ∧ 0 ≤ a2 ∧ a2 < s.2 6 2) ∧ (0 ≤ a3 ∧ a3 < fndM (s.2 6) a1 a2) ∧ (a3 ≤ x5 ∧ x5 ≤ fndM (s.2 6) a1 a2 - 1) ∧ (0 ≤ fndR (s.2 6) a1 a2 ∧ fndR (s.2 6) a1 a2 < 12 ^ (fndM (s.2 6) a1 a2).toNat) ∧ x4 = fndR (s.2 6) a1 a2 / 12 ^ (fndM (s.2 6) a1 a2 - 1 - x5).toNat) → HX3_found_64 (QX3_found s a1 a2 a3) b s x3 x4 x5 f11 f12 f13 f14 f15 f16 f17 f18 f19 k0 k25 k33 k34) := by
  refine lex3_ind ?_
  intro m1 m2 m3 ih
  rintro x3 x4 x5 f11 f12 f13 f14 f15 f16 f17 f18 f19 k0 k25 k33 k34 rfl rfl rfl hI
  refine bX3_found_64 b s x3 x4 x5 f11 f12 f13 f14 f15 f16 f17 f18 f19 k0 k25 k33 k34 ?_
  refine ⟨fun c_1 => ?_, fun c_1 => ?_⟩
  · exact ⟨f11, f12, f13, f14, f15, f16, f17, f18, f19, k25, k33, k34, (rI_c (vX3_found_2 s a1 a2 a3 hp x3 x4 x5 f11 f12 f13 f14 f15 f16 f17 f18 f19 k0 k25 k33 k34 hI c_1)), (sS_c (sS_c (sS_c (sS_c (sA_c (sA_c (sA_c (sA_c (sA_c (sA_c (sA_c (sA_c (sA_c rfl rfl) rfl) rfl) rfl) rfl) rfl) rfl) rfl) rfl) (vX3_found_1 s a1 a2 a3 hp x3 x4 x5 f11 f12 f13 f14 f15 f16 f17 f18 f19 k0 k25 k33 k34 hI c_1)) rfl) rfl) rfl)⟩
  · exact (ih _ _ _ (vX3_found_4 s a1 a2 a3 hp x3 x4 x5 f11 f12 f13 f14 f15 f16 f17 f18 f19 k0 k25 k33 k34 hI c_1)) x3 (i32 (Int.tdiv x4 12)) (i32 (x5 + (-1))) f11 f12 f13 f14 f15 f16 f17 f18 f19 k0 k25 k33 k34 rfl rfl rfl (vX3_found_3 s a1 a2 a3 hp x3 x4 x5 f11 f12 f13 f14 f15 f16 f17 f18 f19 k0 k25 k33 k34 hI c_1)
theorem ctX3_found (b : AH) (s : MS) (a1 : Int) (a2 : Int) (a3 : Int) (hp : tOK (s.2 6)) : MC mX3_found 8 b s [vI a1, vI a2, vI a3] (QX3_found s a1 a2 a3) := by
  refine MC.of (by decide) rfl (Nat.le_of_ble_eq_true rfl) (JW.steq (s2 := sS (sS (sS (sS (sA (sA (sA (sA (sA (sA (sA (sA (sA s 11 (s.2 11)) 12 (s.2 12)) 13 (s.2 13)) 14 (s.2 14)) 15 (s.2 15)) 16 (s.2 16)) 17 (s.2 17)) 18 (s.2 18)) 19 (s.2 19)) 0 (s.1 0)) 25 (s.1 25)) 33 (s.1 33)) 34 (s.1 34)) (by simp only [sA_id, sS_id]) ?_)
  refine bX3_found_0 b s a1 a2 a3 (s.2 11) (s.2 12) (s.2 13) (s.2 14) (s.2 15) (s.2 16) (s.2 17) (s.2 18) (s.2 19) (s.1 0) (s.1 25) (s.1 33) (s.1 34) ?_
  have o_1 : (tOK (s.2 6)) := (vX3_found_5 s a1 a2 a3 hp)
  refine ⟨o_1, ?_⟩
  refine ⟨fun c_3 => ?_, fun c_3 => ?_⟩
  · exact ⟨(s.2 11), (s.2 12), (s.2 13), (s.2 14), (s.2 15), (s.2 16), (s.2 17), (s.2 18), (s.2 19), (s.1 25), (s.1 33), (s.1 34), (rI_c (vX3_found_6 s a1 a2 a3 hp o_1 c_3)), rfl⟩
  · refine ⟨fun c_5 => ?_, fun c_5 => ?_⟩
    · have o_6 : (tOK (s.2 6) ∧ (0 ≤ a1 ∧ a1 < (s.2 6) 2)) := (vX3_found_7 s a1 a2 a3 hp o_1 c_3 c_5)
      refine ⟨o_6, ?_⟩
      intro f_7 f_8 k_9 k_10 q_11
      refine ⟨fun c_13 => ?_, fun c_13 => ?_⟩
      · exact (allX3_found b s a1 a2 a3 hp _ _ _) a3 k_10 (i32 ((fndM (s.2 6) a1 a2) - 1)) f_7 f_8 (s.2 13) (s.2 14) (s.2 15) (s.2 16) (s.2 17) (s.2 18) (s.2 19) 0 k_9 (fndM (s.2 6) a1 a2) k_10 rfl rfl rfl (vX3_found_8 s a1 a2 a3 hp o_1 c_3 c_5 o_6 f_7 f_8 k_9 k_10 q_11 c_13)
      · exact ⟨f_7, f_8, (s.2 13), (s.2 14), (s.2 15), (s.2 16), (s.2 17), (s.2 18), (s.2 19), k_9, (fndM (s.2 6) a1 a2), k_10, (rI_c (vX3_found_9 s a1 a2 a3 hp o_1 c_3 c_5 o_6 f_7 f_8 k_9 k_10 q_11 c_13)), rfl⟩
    · exact ⟨(s.2 11), (s.2 12), (s.2 13), (s.2 14), (s.2 15), (s.2 16), (s.2 17), (s.2 18), (s.2 19), (s.1 25), (s.1 33), (s.1 34), (rI_c (vX3_found_10 s a1 a2 a3 hp o_1 c_3 c_5)), rfl⟩
