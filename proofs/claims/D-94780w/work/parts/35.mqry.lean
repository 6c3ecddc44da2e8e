/-! contracts of the reference: most take gardenOf gardens garden fromOf from back meet -/
set_option maxRecDepth 100000
def HX3_most_0 (Q : Option AV → MS → Prop) (b : AH) (s : MS) (x1 : Int) (f11 : Int → Int) (f12 : Int → Int) (f13 : Int → Int) (f14 : Int → Int) (f15 : Int → Int) (f16 : Int → Int) (f17 : Int → Int) (f18 : Int → Int) (f19 : Int → Int) (k0 : Int) (k25 : Int) (k33 : Int) (k34 : Int) : Prop := MW mX3_most 9 Q b 0 [(0, vR 351), (1, vI x1)] [] (sS (sS (sS (sS (sA (sA (sA (sA (sA (sA (sA (sA (sA s 11 f11) 12 f12) 13 f13) 14 f14) 15 f15) 16 f16) 17 f17) 18 f18) 19 f19) 0 k0) 25 k25) 33 k33) 34 k34)
def HX3_most_57 (Q : Option AV → MS → Prop) (b : AH) (s : MS) (x2 : Int) (x3 : Int) (f11 : Int → Int) (f12 : Int → Int) (f13 : Int → Int) (f14 : Int → Int) (f15 : Int → Int) (f16 : Int → Int) (f17 : Int → Int) (f18 : Int → Int) (f19 : Int → Int) (k0 : Int) (k25 : Int) (k33 : Int) (k34 : Int) : Prop := MW mX3_most 9 Q b 57 [(0, vR 351), (2, vI x2), (3, vI x3)] [] (sS (sS (sS (sS (sA (sA (sA (sA (sA (sA (sA (sA (sA s 11 f11) 12 f12) 13 f13) 14 f14) 15 f15) 16 f16) 17 f17) 18 f18) 19 f19) 0 k0) 25 k25) 33 k33) 34 k34)
theorem bX3_most_0 {Q : Option AV → MS → Prop} (b : AH) (s : MS) (x1 : Int) (f11 : Int → Int) (f12 : Int → Int) (f13 : Int → Int) (f14 : Int → Int) (f15 : Int → Int) (f16 : Int → Int) (f17 : Int → Int) (f18 : Int → Int) (f19 : Int → Int) (k0 : Int) (k25 : Int) (k33 : Int) (k34 : Int) (K : ((bI (0 < (s.2 5) 0)) = 0 → Q (some (vI (-2))) (sS (sS (sS (sS (sA (sA (sA (sA (sA (sA (sA (sA (sA s 11 f11) 12 f12) 13 f13) 14 f14) 15 f15) 16 f16) 17 f17) 18 f18) 19 f19) 0 0) 25 k25) 33 k33) 34 k34)) ∧ (¬ (bI (0 < (s.2 5) 0)) = 0 → (¬ (bI ((0 : Int) ≤ x1 ∧ x1 ≤ (2 : Int))) = 0 → (tOK (s.2 6) ∧ aOK (s.2 6) (s.2 7)) ∧ ((∀ (f_6 : Int → Int) (f_7 : Int → Int) (f_8 : Int → Int) (f_9 : Int → Int) (f_10 : Int → Int) (f_11 : Int → Int) (f_12 : Int → Int) (k_13 : Int), (GO (s.2 6) (s.2 7) f_8 f_9 f_10 f_11) → (tOK (s.2 6)) ∧ ((x1 = 1 → HX3_most_57 Q b s (maxI 0 f_9 ((s.2 6) 2).toNat) 0 f_6 f_7 f_8 f_9 f_10 f_11 f_12 f18 f19 0 k_13 k33 k34) ∧ (¬ x1 = 1 → (¬ x1 = 0 → Q (some (vI (many (fun x => f_9 x = (maxI 0 f_9 ((s.2 6) 2).toNat)) ((s.2 6) 2).toNat))) (sS (sS (sS (sS (sA (sA (sA (sA (sA (sA (sA (sA (sA s 11 f_6) 12 f_7) 13 f_8) 14 f_9) 15 f_10) 16 f_11) 17 f_12) 18 f18) 19 f19) 0 0) 25 k_13) 33 k33) 34 k34)) ∧ (x1 = 0 → Q (some (vI (maxI 0 f_9 ((s.2 6) 2).toNat))) (sS (sS (sS (sS (sA (sA (sA (sA (sA (sA (sA (sA (sA s 11 f_6) 12 f_7) 13 f_8) 14 f_9) 15 f_10) 16 f_11) 17 f_12) 18 f18) 19 f19) 0 0) 25 k_13) 33 k33) 34 k34))))))) ∧ ((bI ((0 : Int) ≤ x1 ∧ x1 ≤ (2 : Int))) = 0 → Q (some (vI (-2))) (sS (sS (sS (sS (sA (sA (sA (sA (sA (sA (sA (sA (sA s 11 f11) 12 f12) 13 f13) 14 f14) 15 f15) 16 f16) 17 f17) 18 f18) 19 f19) 0 0) 25 k25) 33 k33) 34 k34)))) : HX3_most_0 Q b s x1 f11 f12 f13 f14 f15 f16 f17 f18 f19 k0 k25 k33 k34 := by
  refine JW.aload_n dX3_most_0 rfl ?_
  refine JW.iconst dX3_most_1 rfl ?_
  refine JW.mputI dX3_most_2 (pX3_77 _) rfl ?_
  refine JW.steq (s2 := sS (sS (sS (sS (sA (sA (sA (sA (sA (sA (sA (sA (sA s 11 f11) 12 f12) 13 f13) 14 f14) 15 f15) 16 f16) 17 f17) 18 f18) 19 f19) 0 0) 25 k25) 33 k33) 34 k34) (by simp only [sA_A, sS_S, sA_S, sA_lt, sS_lt, Nat.reduceLT, id_eq] <;> rfl) ?_
  refine JW.aload_n dX3_most_5 rfl ?_
  refine JW.mcall (As := []) dX3_most_6 vX3_isTable rfl q1798 (ctX3_isTable b (sS (sS (sS (sS (sA (sA (sA (sA (sA (sA (sA (sA (sA s 11 f11) 12 f12) 13 f13) 14 f14) 15 f15) 16 f16) 17 f17) 18 f18) 19 f19) 0 0) 25 k25) 33 k33) 34 k34)) (Nat.le_of_ble_eq_true rfl) rfl (Nat.le_of_ble_eq_true rfl) ?_
  rintro _ _ ⟨rfl, eq_1⟩
  refine JW.steq (s2 := sS (sS (sS (sS (sA (sA (sA (sA (sA (sA (sA (sA (sA s 11 f11) 12 f12) 13 f13) 14 f14) 15 f15) 16 f16) 17 f17) 18 f18) 19 f19) 0 0) 25 k25) 33 k33) 34 k34) eq_1 ?_
  refine JW.if_eq (tgt := 24) dX3_most_9 rfl (fun c_2 => ?_) (fun c_2 => ?_)
  · have K := K.1 c_2
    refine JW.bipush dX3_most_24 rfl ?_
    exact JW.ireturn dX3_most_26 rfl rfl ⟨_, rfl, K⟩
  · have K := K.2 c_2
    refine JW.iload_n dX3_most_12 rfl ?_
    refine JW.i2l dX3_most_13 ?_
    refine JW.lconst (x := 0) dX3_most_14 rfl ?_
    refine JW.ldc2 (x := 2) dX3_most_15 q1923 rfl ?_
    refine JW.mcallS (As := [vL x1, vL 0, vL 2]) dX3_most_18 vX3_in q1632 (ctX3_in b (sS (sS (sS (sS (sA (sA (sA (sA (sA (sA (sA (sA (sA s 11 f11) 12 f12) 13 f13) 14 f14) 15 f15) 16 f16) 17 f17) 18 f18) 19 f19) 0 0) 25 k25) 33 k33) 34 k34) x1 0 2) (Nat.le_of_ble_eq_true rfl) rfl (Nat.le_of_ble_eq_true rfl) ?_
    rintro _ _ ⟨rfl, eq_3⟩
    refine JW.steq (s2 := sS (sS (sS (sS (sA (sA (sA (sA (sA (sA (sA (sA (sA s 11 f11) 12 f12) 13 f13) 14 f14) 15 f15) 16 f16) 17 f17) 18 f18) 19 f19) 0 0) 25 k25) 33 k33) 34 k34) eq_3 ?_
    refine JW.if_ne (tgt := 27) dX3_most_21 rfl (fun c_4 => ?_) (fun c_4 => ?_)
    · have K := K.1 c_4
      refine JW.aload_n dX3_most_27 rfl ?_
      obtain ⟨o_5, K⟩ := K
      refine JW.mcall (As := []) dX3_most_28 vX3_all rfl q1863 (ctX3_all b (sS (sS (sS (sS (sA (sA (sA (sA (sA (sA (sA (sA (sA s 11 f11) 12 f12) 13 f13) 14 f14) 15 f15) 16 f16) 17 f17) 18 f18) 19 f19) 0 0) 25 k25) 33 k33) 34 k34) o_5) (Nat.le_of_ble_eq_true rfl) rfl (Nat.le_of_ble_eq_true rfl) ?_
      rintro _ _ ⟨f_6, f_7, f_8, f_9, f_10, f_11, f_12, k_13, rfl, rfl, q_14⟩
      refine JW.steq (s2 := sS (sS (sS (sS (sA (sA (sA (sA (sA (sA (sA (sA (sA s 11 f_6) 12 f_7) 13 f_8) 14 f_9) 15 f_10) 16 f_11) 17 f_12) 18 f18) 19 f19) 0 0) 25 k_13) 33 k33) 34 k34) (by simp only [sA_A, sS_S, sA_S, sA_lt, sS_lt, Nat.reduceLT, id_eq] <;> rfl) ?_
      replace K := K f_6 f_7 f_8 f_9 f_10 f_11 f_12 k_13 q_14
      refine JW.aload_n dX3_most_31 rfl ?_
      obtain ⟨o_15, K⟩ := K
      refine JW.mcall (As := []) dX3_most_32 vX3_mostTail rfl q1924 (ctX3_mostTail b (sS (sS (sS (sS (sA (sA (sA (sA (sA (sA (sA (sA (sA s 11 f_6) 12 f_7) 13 f_8) 14 f_9) 15 f_10) 16 f_11) 17 f_12) 18 f18) 19 f19) 0 0) 25 k_13) 33 k33) 34 k34) o_15) (Nat.le_of_ble_eq_true rfl) rfl (Nat.le_of_ble_eq_true rfl) ?_
      rintro _ _ ⟨rfl, eq_16⟩
      refine JW.steq (s2 := sS (sS (sS (sS (sA (sA (sA (sA (sA (sA (sA (sA (sA s 11 f_6) 12 f_7) 13 f_8) 14 f_9) 15 f_10) 16 f_11) 17 f_12) 18 f18) 19 f19) 0 0) 25 k_13) 33 k33) 34 k34) eq_16 ?_
      refine JW.istore_n (ls' := [(0, vR 351), (1, vI x1), (2, vI (maxI 0 f_9 ((s.2 6) 2).toNat))]) dX3_most_35 (Nat.le_of_ble_eq_true rfl) rfl ?_
      refine JW.iload_n dX3_most_36 rfl ?_
      refine JW.iconst dX3_most_37 rfl ?_
      refine JW.icmp_eq (tgt := 55) dX3_most_38 rfl (fun c_17 => ?_) (fun c_17 => ?_)
      · have K := K.1 c_17
        refine JW.iconst dX3_most_55 rfl ?_
        refine JW.istore_n (ls' := [(0, vR 351), (1, vI x1), (2, vI (maxI 0 f_9 ((s.2 6) 2).toNat)), (3, vI 0)]) dX3_most_56 (Nat.le_of_ble_eq_true rfl) rfl ?_
        exact JW.pick [0, 2, 3] rfl K
      · have K := K.2 c_17
        refine JW.iload_n dX3_most_41 rfl ?_
        refine JW.if_ne (tgt := 49) dX3_most_42 rfl (fun c_18 => ?_) (fun c_18 => ?_)
        · have K := K.1 c_18
          refine JW.aload_n dX3_most_49 rfl ?_
          refine JW.iload_n dX3_most_50 rfl ?_
          refine JW.mcall (As := [vI (maxI 0 f_9 ((s.2 6) 2).toNat)]) dX3_most_51 vX3_manyOf rfl q1928 (ctX3_manyOf b (sS (sS (sS (sS (sA (sA (sA (sA (sA (sA (sA (sA (sA s 11 f_6) 12 f_7) 13 f_8) 14 f_9) 15 f_10) 16 f_11) 17 f_12) 18 f18) 19 f19) 0 0) 25 k_13) 33 k33) 34 k34) (maxI 0 f_9 ((s.2 6) 2).toNat) o_15) (Nat.le_of_ble_eq_true rfl) rfl (Nat.le_of_ble_eq_true rfl) ?_
          rintro _ _ ⟨rfl, eq_19⟩
          refine JW.steq (s2 := sS (sS (sS (sS (sA (sA (sA (sA (sA (sA (sA (sA (sA s 11 f_6) 12 f_7) 13 f_8) 14 f_9) 15 f_10) 16 f_11) 17 f_12) 18 f18) 19 f19) 0 0) 25 k_13) 33 k33) 34 k34) eq_19 ?_
          exact JW.ireturn dX3_most_54 rfl rfl ⟨_, rfl, K⟩
        · have K := K.2 c_18
          refine JW.iload_n dX3_most_45 rfl ?_
          refine JW.goto (tgt := 54) dX3_most_46 rfl ?_
          exact JW.ireturn dX3_most_54 rfl rfl ⟨_, rfl, K⟩
    · have K := K.2 c_4
      refine JW.bipush dX3_most_24 rfl ?_
      exact JW.ireturn dX3_most_26 rfl rfl ⟨_, rfl, K⟩
theorem bX3_most_57 {Q : Option AV → MS → Prop} (b : AH) (s : MS) (x2 : Int) (x3 : Int) (f11 : Int → Int) (f12 : Int → Int) (f13 : Int → Int) (f14 : Int → Int) (f15 : Int → Int) (f16 : Int → Int) (f17 : Int → Int) (f18 : Int → Int) (f19 : Int → Int) (k0 : Int) (k25 : Int) (k33 : Int) (k34 : Int) (K : (0 ≤ x3 ∧ x3 < 10000) ∧ (((f14 x3) = x2 → Q (some (vI x3)) (sS (sS (sS (sS (sA (sA (sA (sA (sA (sA (sA (sA (sA s 11 f11) 12 f12) 13 f13) 14 f14) 15 f15) 16 f16) 17 f17) 18 f18) 19 f19) 0 k0) 25 k25) 33 k33) 34 k34)) ∧ (¬ (f14 x3) = x2 → HX3_most_57 Q b s x2 (i32 (x3 + 1)) f11 f12 f13 f14 f15 f16 f17 f18 f19 k0 k25 k33 k34))) : HX3_most_57 Q b s x2 x3 f11 f12 f13 f14 f15 f16 f17 f18 f19 k0 k25 k33 k34 := by
  refine JW.aload_n dX3_most_57 rfl ?_
  refine JW.mget (v := vR 366) dX3_most_58 fX3_59 rfl ?_
  refine JW.iload_n dX3_most_61 rfl ?_
  obtain ⟨o_1, K⟩ := K
  refine JW.mald 14 (x := (f14 x3)) dX3_most_62 (Nat.le_of_ble_eq_true rfl) rfl o_1.1 o_1.2 rfl ?_
  refine JW.iload_n dX3_most_63 rfl ?_
  refine JW.icmp_eq (tgt := 73) dX3_most_64 rfl (fun c_2 => ?_) (fun c_2 => ?_)
  · have K := K.1 c_2
    refine JW.iload_n dX3_most_73 rfl ?_
    exact JW.ireturn dX3_most_74 rfl rfl ⟨_, rfl, K⟩
  · have K := K.2 c_2
    refine JW.iinc (ls' := [(0, vR 351), (2, vI x2), (3, vI (i32 (x3 + 1)))]) dX3_most_67 (Nat.le_of_ble_eq_true rfl) rfl rfl ?_
    refine JW.goto (tgt := 57) dX3_most_70 rfl ?_
    exact JW.pick [0, 2, 3] rfl K
def QX3_most (s : MS) (a1 : Int) : Option AV → MS → Prop := fun v s' => ∃ (f11 : Int → Int) (f12 : Int → Int) (f13 : Int → Int) (f14 : Int → Int) (f15 : Int → Int) (f16 : Int → Int) (f17 : Int → Int) (f18 : Int → Int) (f19 : Int → Int) (k25 : Int) (k33 : Int) (k34 : Int), v = some (vI (rMost ((s.2 5) 0) (s.2 6) (s.2 7) a1)) ∧ s' = sS (sS (sS (sS (sA (sA (sA (sA (sA (sA (sA (sA (sA s 11 f11) 12 f12) 13 f13) 14 f14) 15 f15) 16 f16) 17 f17) 18 f18) 19 f19) 0 (0)) 25 k25) 33 k33) 34 k34
theorem vX3_most_1 (s : MS) (a1 : Int) (hp : tOK (s.2 6) ∧ aOK (s.2 6) (s.2 7) ∧ lOK ((s.2 5) 0) (s.2 6)) (x2 : Int) (x3 : Int) (f11 : Int → Int) (f12 : Int → Int) (f13 : Int → Int) (f14 : Int → Int) (f15 : Int → Int) (f16 : Int → Int) (f17 : Int → Int) (f18 : Int → Int) (f19 : Int → Int) (k0 : Int) (k25 : Int) (k33 : Int) (k34 : Int) (hI : k0 = 0 ∧ GO (s.2 6) (s.2 7) f13 f14 f15 f16 ∧ (0 < s.2 5 0 ∧ a1 = 1) ∧ (0 ≤ x3 ∧ x3 < s.2 6 2) ∧ x2 = mostT (s.2 6) (s.2 7) ∧ ∀ z : Int, 0 ≤ z → z < x3 → f14 z ≠ x2) : (0 ≤ x3 ∧ x3 < 10000) := by
  obtain ⟨ht, ha, hl⟩ := hp
  have hN := tOK_N ht
  have hg := nx_rng (s.2 6) (s.2 7)
  (try simp only [bI_0, bI_n, Classical.not_not] at *)
  (try have hq := ‹GO (s.2 6) (s.2 7) _ _ _ _›)
  (try have hq := hI.2.1)
  (try have hx := GO_at hq (x := a1) (by omega) (by omega))
  (try have hN2 : 0 < s.2 6 2 := lOK_N ht hl (by omega))
  (try have hy := GO_at hq (x := x3) (by omega) (by omega))
  (try (have hz := mostT_ex (h := s.2 6) (a := s.2 7) hN2; obtain ⟨iz, hz0, hz1, hz2⟩ := hz))
  (try have hi := hI.2.2.2.2.2 iz hz0)
  (try have hzq := (hq iz hz0 hz1).1.2)
  (try unfold lex3)
  (try simp only [bI_0, bI_n, Classical.not_not] at *)
  (try simp (disch := omega) only [i32_id] at *)
  first | done | omega | ((repeat' (with_reducible apply And.intro)) <;> first | assumption | rfl | omega | (exact hI.1) | (exact hI.2.1) | (exact hq) | (unfold rMost; rw [if_neg (by omega)]) | (unfold rMost; rw [if_pos (by omega), if_pos (by omega)]; exact mostT_eq hq) | (unfold rMost; rw [if_pos (by omega), if_neg (by omega), if_neg (by omega), mostT_eq hq]; exact GO_many hq _) | (exact mostT_eq hq) | (intro z h0 h1; omega) | (unfold rMost; rw [if_pos (by omega), if_neg (by omega), if_pos (by omega)]; exact nth_eq (isNth_first hI.2.2.2.1.1 hI.2.2.2.1.2 (by show tl _ _ = _; omega) (fun z h0 h1 => by have := hI.2.2.2.2.2 z h0 h1; have := (hq z h0 (by omega)).1.2; show ¬ tl _ _ = _; omega))) | (intro z h0 h1; by_cases e : z = x3; (focus (rw [e]; assumption)); (focus (exact hI.2.2.2.2.2 z h0 (by omega)))) | grind [upI])
theorem vX3_most_2 (s : MS) (a1 : Int) (hp : tOK (s.2 6) ∧ aOK (s.2 6) (s.2 7) ∧ lOK ((s.2 5) 0) (s.2 6)) (x2 : Int) (x3 : Int) (f11 : Int → Int) (f12 : Int → Int) (f13 : Int → Int) (f14 : Int → Int) (f15 : Int → Int) (f16 : Int → Int) (f17 : Int → Int) (f18 : Int → Int) (f19 : Int → Int) (k0 : Int) (k25 : Int) (k33 : Int) (k34 : Int) (hI : k0 = 0 ∧ GO (s.2 6) (s.2 7) f13 f14 f15 f16 ∧ (0 < s.2 5 0 ∧ a1 = 1) ∧ (0 ≤ x3 ∧ x3 < s.2 6 2) ∧ x2 = mostT (s.2 6) (s.2 7) ∧ ∀ z : Int, 0 ≤ z → z < x3 → f14 z ≠ x2) (o_1 : (0 ≤ x3 ∧ x3 < 10000)) (c_2 : (f14 x3) = x2) : k0 = (0) := by
  obtain ⟨ht, ha, hl⟩ := hp
  have hN := tOK_N ht
  have hg := nx_rng (s.2 6) (s.2 7)
  (try simp only [bI_0, bI_n, Classical.not_not] at *)
  (try have hq := ‹GO (s.2 6) (s.2 7) _ _ _ _›)
  (try have hq := hI.2.1)
  (try have hx := GO_at hq (x := a1) (by omega) (by omega))
  (try have hN2 : 0 < s.2 6 2 := lOK_N ht hl (by omega))
  (try have hy := GO_at hq (x := x3) (by omega) (by omega))
  (try (have hz := mostT_ex (h := s.2 6) (a := s.2 7) hN2; obtain ⟨iz, hz0, hz1, hz2⟩ := hz))
  (try have hi := hI.2.2.2.2.2 iz hz0)
  (try have hzq := (hq iz hz0 hz1).1.2)
  (try unfold lex3)
  (try simp only [bI_0, bI_n, Classical.not_not] at *)
  (try simp (disch := omega) only [i32_id] at *)
  first | done | omega | ((repeat' (with_reducible apply And.intro)) <;> first | assumption | rfl | omega | (exact hI.1) | (exact hI.2.1) | (exact hq) | (unfold rMost; rw [if_neg (by omega)]) | (unfold rMost; rw [if_pos (by omega), if_pos (by omega)]; exact mostT_eq hq) | (unfold rMost; rw [if_pos (by omega), if_neg (by omega), if_neg (by omega), mostT_eq hq]; exact GO_many hq _) | (exact mostT_eq hq) | (intro z h0 h1; omega) | (unfold rMost; rw [if_pos (by omega), if_neg (by omega), if_pos (by omega)]; exact nth_eq (isNth_first hI.2.2.2.1.1 hI.2.2.2.1.2 (by show tl _ _ = _; omega) (fun z h0 h1 => by have := hI.2.2.2.2.2 z h0 h1; have := (hq z h0 (by omega)).1.2; show ¬ tl _ _ = _; omega))) | (intro z h0 h1; by_cases e : z = x3; (focus (rw [e]; assumption)); (focus (exact hI.2.2.2.2.2 z h0 (by omega)))) | grind [upI])
theorem vX3_most_3 (s : MS) (a1 : Int) (hp : tOK (s.2 6) ∧ aOK (s.2 6) (s.2 7) ∧ lOK ((s.2 5) 0) (s.2 6)) (x2 : Int) (x3 : Int) (f11 : Int → Int) (f12 : Int → Int) (f13 : Int → Int) (f14 : Int → Int) (f15 : Int → Int) (f16 : Int → Int) (f17 : Int → Int) (f18 : Int → Int) (f19 : Int → Int) (k0 : Int) (k25 : Int) (k33 : Int) (k34 : Int) (hI : k0 = 0 ∧ GO (s.2 6) (s.2 7) f13 f14 f15 f16 ∧ (0 < s.2 5 0 ∧ a1 = 1) ∧ (0 ≤ x3 ∧ x3 < s.2 6 2) ∧ x2 = mostT (s.2 6) (s.2 7) ∧ ∀ z : Int, 0 ≤ z → z < x3 → f14 z ≠ x2) (o_1 : (0 ≤ x3 ∧ x3 < 10000)) (c_2 : (f14 x3) = x2) : x3 = (rMost ((s.2 5) 0) (s.2 6) (s.2 7) a1) := by
  obtain ⟨ht, ha, hl⟩ := hp
  have hN := tOK_N ht
  have hg := nx_rng (s.2 6) (s.2 7)
  (try simp only [bI_0, bI_n, Classical.not_not] at *)
  (try have hq := ‹GO (s.2 6) (s.2 7) _ _ _ _›)
  (try have hq := hI.2.1)
  (try have hx := GO_at hq (x := a1) (by omega) (by omega))
  (try have hN2 : 0 < s.2 6 2 := lOK_N ht hl (by omega))
  (try have hy := GO_at hq (x := x3) (by omega) (by omega))
  (try (have hz := mostT_ex (h := s.2 6) (a := s.2 7) hN2; obtain ⟨iz, hz0, hz1, hz2⟩ := hz))
  (try have hi := hI.2.2.2.2.2 iz hz0)
  (try have hzq := (hq iz hz0 hz1).1.2)
  (try unfold lex3)
  (try simp only [bI_0, bI_n, Classical.not_not] at *)
  (try simp (disch := omega) only [i32_id] at *)
  first | done | omega | ((repeat' (with_reducible apply And.intro)) <;> first | assumption | rfl | omega | (exact hI.1) | (exact hI.2.1) | (exact hq) | (unfold rMost; rw [if_neg (by omega)]) | (unfold rMost; rw [if_pos (by omega), if_pos (by omega)]; exact mostT_eq hq) | (unfold rMost; rw [if_pos (by omega), if_neg (by omega), if_neg (by omega), mostT_eq hq]; exact GO_many hq _) | (exact mostT_eq hq) | (intro z h0 h1; omega) | (unfold rMost; rw [if_pos (by omega), if_neg (by omega), if_pos (by omega)]; exact nth_eq (isNth_first hI.2.2.2.1.1 hI.2.2.2.1.2 (by show tl _ _ = _; omega) (fun z h0 h1 => by have := hI.2.2.2.2.2 z h0 h1; have := (hq z h0 (by omega)).1.2; show ¬ tl _ _ = _; omega))) | (intro z h0 h1; by_cases e : z = x3; (focus (rw [e]; assumption)); (focus (exact hI.2.2.2.2.2 z h0 (by omega)))) | grind [upI])
theorem vX3_most_4 (s : MS) (a1 : Int) (hp : tOK (s.2 6) ∧ aOK (s.2 6) (s.2 7) ∧ lOK ((s.2 5) 0) (s.2 6)) (x2 : Int) (x3 : Int) (f11 : Int → Int) (f12 : Int → Int) (f13 : Int → Int) (f14 : Int → Int) (f15 : Int → Int) (f16 : Int → Int) (f17 : Int → Int) (f18 : Int → Int) (f19 : Int → Int) (k0 : Int) (k25 : Int) (k33 : Int) (k34 : Int) (hI : k0 = 0 ∧ GO (s.2 6) (s.2 7) f13 f14 f15 f16 ∧ (0 < s.2 5 0 ∧ a1 = 1) ∧ (0 ≤ x3 ∧ x3 < s.2 6 2) ∧ x2 = mostT (s.2 6) (s.2 7) ∧ ∀ z : Int, 0 ≤ z → z < x3 → f14 z ≠ x2) (o_1 : (0 ≤ x3 ∧ x3 < 10000)) (c_2 : ¬ (f14 x3) = x2) : k0 = 0 ∧ GO (s.2 6) (s.2 7) f13 f14 f15 f16 ∧ (0 < s.2 5 0 ∧ a1 = 1) ∧ (0 ≤ (i32 (x3 + 1)) ∧ (i32 (x3 + 1)) < s.2 6 2) ∧ x2 = mostT (s.2 6) (s.2 7) ∧ ∀ z : Int, 0 ≤ z → z < (i32 (x3 + 1)) → f14 z ≠ x2 := by
  obtain ⟨ht, ha, hl⟩ := hp
  have hN := tOK_N ht
  have hg := nx_rng (s.2 6) (s.2 7)
  (try simp only [bI_0, bI_n, Classical.not_not] at *)
  (try have hq := ‹GO (s.2 6) (s.2 7) _ _ _ _›)
  (try have hq := hI.2.1)
  (try have hx := GO_at hq (x := a1) (by omega) (by omega))
  (try have hN2 : 0 < s.2 6 2 := lOK_N ht hl (by omega))
  (try have hy := GO_at hq (x := x3) (by omega) (by omega))
  (try (have hz := mostT_ex (h := s.2 6) (a := s.2 7) hN2; obtain ⟨iz, hz0, hz1, hz2⟩ := hz))
  (try have hi := hI.2.2.2.2.2 iz hz0)
  (try have hzq := (hq iz hz0 hz1).1.2)
  (try unfold lex3)
  (try simp only [bI_0, bI_n, Classical.not_not] at *)
  (try simp (disch := omega) only [i32_id] at *)
  first | done | omega | ((repeat' (with_reducible apply And.intro)) <;> first | assumption | rfl | omega | (exact hI.1) | (exact hI.2.1) | (exact hq) | (unfold rMost; rw [if_neg (by omega)]) | (unfold rMost; rw [if_pos (by omega), if_pos (by omega)]; exact mostT_eq hq) | (unfold rMost; rw [if_pos (by omega), if_neg (by omega), if_neg (by omega), mostT_eq hq]; exact GO_many hq _) | (exact mostT_eq hq) | (intro z h0 h1; omega) | (unfold rMost; rw [if_pos (by omega), if_neg (by omega), if_pos (by omega)]; exact nth_eq (isNth_first hI.2.2.2.1.1 hI.2.2.2.1.2 (by show tl _ _ = _; omega) (fun z h0 h1 => by have := hI.2.2.2.2.2 z h0 h1; have := (hq z h0 (by omega)).1.2; show ¬ tl _ _ = _; omega))) | (intro z h0 h1; by_cases e : z = x3; (focus (rw [e]; assumption)); (focus (exact hI.2.2.2.2.2 z h0 (by omega)))) | grind [upI])
theorem vX3_most_5 (s : MS) (a1 : Int) (hp : tOK (s.2 6) ∧ aOK (s.2 6) (s.2 7) ∧ lOK ((s.2 5) 0) (s.2 6)) (x2 : Int) (x3 : Int) (f11 : Int → Int) (f12 : Int → Int) (f13 : Int → Int) (f14 : Int → Int) (f15 : Int → Int) (f16 : Int → Int) (f17 : Int → Int) (f18 : Int → Int) (f19 : Int → Int) (k0 : Int) (k25 : Int) (k33 : Int) (k34 : Int) (hI : k0 = 0 ∧ GO (s.2 6) (s.2 7) f13 f14 f15 f16 ∧ (0 < s.2 5 0 ∧ a1 = 1) ∧ (0 ≤ x3 ∧ x3 < s.2 6 2) ∧ x2 = mostT (s.2 6) (s.2 7) ∧ ∀ z : Int, 0 ≤ z → z < x3 → f14 z ≠ x2) (o_1 : (0 ≤ x3 ∧ x3 < 10000)) (c_2 : ¬ (f14 x3) = x2) : lex3 0 0 ((s.2 6 2 - (i32 (x3 + 1))).toNat) 0 0 ((s.2 6 2 - x3).toNat) := by
  obtain ⟨ht, ha, hl⟩ := hp
  have hN := tOK_N ht
  have hg := nx_rng (s.2 6) (s.2 7)
  (try simp only [bI_0, bI_n, Classical.not_not] at *)
  (try have hq := ‹GO (s.2 6) (s.2 7) _ _ _ _›)
  (try have hq := hI.2.1)
  (try have hx := GO_at hq (x := a1) (by omega) (by omega))
  (try have hN2 : 0 < s.2 6 2 := lOK_N ht hl (by omega))
  (try have hy := GO_at hq (x := x3) (by omega) (by omega))
  (try (have hz := mostT_ex (h := s.2 6) (a := s.2 7) hN2; obtain ⟨iz, hz0, hz1, hz2⟩ := hz))
  (try have hi := hI.2.2.2.2.2 iz hz0)
  (try have hzq := (hq iz hz0 hz1).1.2)
  (try unfold lex3)
  (try simp only [bI_0, bI_n, Classical.not_not] at *)
  (try simp (disch := omega) only [i32_id] at *)
  first | done | omega | ((repeat' (with_reducible apply And.intro)) <;> first | assumption | rfl | omega | (exact hI.1) | (exact hI.2.1) | (exact hq) | (unfold rMost; rw [if_neg (by omega)]) | (unfold rMost; rw [if_pos (by omega), if_pos (by omega)]; exact mostT_eq hq) | (unfold rMost; rw [if_pos (by omega), if_neg (by omega), if_neg (by omega), mostT_eq hq]; exact GO_many hq _) | (exact mostT_eq hq) | (intro z h0 h1; omega) | (unfold rMost; rw [if_pos (by omega), if_neg (by omega), if_pos (by omega)]; exact nth_eq (isNth_first hI.2.2.2.1.1 hI.2.2.2.1.2 (by show tl _ _ = _; omega) (fun z h0 h1 => by have := hI.2.2.2.2.2 z h0 h1; have := (hq z h0 (by omega)).1.2; show ¬ tl _ _ = _; omega))) | (intro z h0 h1; by_cases e : z = x3; (focus (rw [e]; assumption)); (focus (exact hI.2.2.2.2.2 z h0 (by omega)))) | grind [upI])
theorem vX3_most_6 (s : MS) (a1 : Int) (hp : tOK (s.2 6) ∧ aOK (s.2 6) (s.2 7) ∧ lOK ((s.2 5) 0) (s.2 6)) (c_2 : (bI (0 < (s.2 5) 0)) = 0) : (-2) = (rMost ((s.2 5) 0) (s.2 6) (s.2 7) a1) := by
  obtain ⟨ht, ha, hl⟩ := hp
  have hN := tOK_N ht
  have hg := nx_rng (s.2 6) (s.2 7)
  (try simp only [bI_0, bI_n, Classical.not_not] at *)
  (try have hq := ‹GO (s.2 6) (s.2 7) _ _ _ _›)
  (try have hq := hI.2.1)
  (try have hx := GO_at hq (x := a1) (by omega) (by omega))
  (try have hN2 : 0 < s.2 6 2 := lOK_N ht hl (by omega))
  (try have hy := GO_at hq (x := x3) (by omega) (by omega))
  (try (have hz := mostT_ex (h := s.2 6) (a := s.2 7) hN2; obtain ⟨iz, hz0, hz1, hz2⟩ := hz))
  (try have hi := hI.2.2.2.2.2 iz hz0)
  (try have hzq := (hq iz hz0 hz1).1.2)
  (try unfold lex3)
  (try simp only [bI_0, bI_n, Classical.not_not] at *)
  (try simp (disch := omega) only [i32_id] at *)
  first | done | omega | ((repeat' (with_reducible apply And.intro)) <;> first | assumption | rfl | omega | (exact hI.1) | (exact hI.2.1) | (exact hq) | (unfold rMost; rw [if_neg (by omega)]) | (unfold rMost; rw [if_pos (by omega), if_pos (by omega)]; exact mostT_eq hq) | (unfold rMost; rw [if_pos (by omega), if_neg (by omega), if_neg (by omega), mostT_eq hq]; exact GO_many hq _) | (exact mostT_eq hq) | (intro z h0 h1; omega) | (unfold rMost; rw [if_pos (by omega), if_neg (by omega), if_pos (by omega)]; exact nth_eq (isNth_first hI.2.2.2.1.1 hI.2.2.2.1.2 (by show tl _ _ = _; omega) (fun z h0 h1 => by have := hI.2.2.2.2.2 z h0 h1; have := (hq z h0 (by omega)).1.2; show ¬ tl _ _ = _; omega))) | (intro z h0 h1; by_cases e : z = x3; (focus (rw [e]; assumption)); (focus (exact hI.2.2.2.2.2 z h0 (by omega)))) | grind [upI])
theorem vX3_most_7 (s : MS) (a1 : Int) (hp : tOK (s.2 6) ∧ aOK (s.2 6) (s.2 7) ∧ lOK ((s.2 5) 0) (s.2 6)) (c_2 : ¬ (bI (0 < (s.2 5) 0)) = 0) (c_4 : ¬ (bI ((0 : Int) ≤ a1 ∧ a1 ≤ (2 : Int))) = 0) : (tOK (s.2 6) ∧ aOK (s.2 6) (s.2 7)) := by
  obtain ⟨ht, ha, hl⟩ := hp
  have hN := tOK_N ht
  have hg := nx_rng (s.2 6) (s.2 7)
  (try simp only [bI_0, bI_n, Classical.not_not] at *)
  (try have hq := ‹GO (s.2 6) (s.2 7) _ _ _ _›)
  (try have hq := hI.2.1)
  (try have hx := GO_at hq (x := a1) (by omega) (by omega))
  (try have hN2 : 0 < s.2 6 2 := lOK_N ht hl (by omega))
  (try have hy := GO_at hq (x := x3) (by omega) (by omega))
  (try (have hz := mostT_ex (h := s.2 6) (a := s.2 7) hN2; obtain ⟨iz, hz0, hz1, hz2⟩ := hz))
  (try have hi := hI.2.2.2.2.2 iz hz0)
  (try have hzq := (hq iz hz0 hz1).1.2)
  (try unfold lex3)
  (try simp only [bI_0, bI_n, Classical.not_not] at *)
  (try simp (disch := omega) only [i32_id] at *)
  first | done | omega | ((repeat' (with_reducible apply And.intro)) <;> first | assumption | rfl | omega | (exact hI.1) | (exact hI.2.1) | (exact hq) | (unfold rMost; rw [if_neg (by omega)]) | (unfold rMost; rw [if_pos (by omega), if_pos (by omega)]; exact mostT_eq hq) | (unfold rMost; rw [if_pos (by omega), if_neg (by omega), if_neg (by omega), mostT_eq hq]; exact GO_many hq _) | (exact mostT_eq hq) | (intro z h0 h1; omega) | (unfold rMost; rw [if_pos (by omega), if_neg (by omega), if_pos (by omega)]; exact nth_eq (isNth_first hI.2.2.2.1.1 hI.2.2.2.1.2 (by show tl _ _ = _; omega) (fun z h0 h1 => by have := hI.2.2.2.2.2 z h0 h1; have := (hq z h0 (by omega)).1.2; show ¬ tl _ _ = _; omega))) | (intro z h0 h1; by_cases e : z = x3; (focus (rw [e]; assumption)); (focus (exact hI.2.2.2.2.2 z h0 (by omega)))) | grind [upI])
theorem vX3_most_8 (s : MS) (a1 : Int) (hp : tOK (s.2 6) ∧ aOK (s.2 6) (s.2 7) ∧ lOK ((s.2 5) 0) (s.2 6)) (c_2 : ¬ (bI (0 < (s.2 5) 0)) = 0) (c_4 : ¬ (bI ((0 : Int) ≤ a1 ∧ a1 ≤ (2 : Int))) = 0) (o_5 : (tOK (s.2 6) ∧ aOK (s.2 6) (s.2 7))) (f_6 : Int → Int) (f_7 : Int → Int) (f_8 : Int → Int) (f_9 : Int → Int) (f_10 : Int → Int) (f_11 : Int → Int) (f_12 : Int → Int) (k_13 : Int) (q_14 : (GO (s.2 6) (s.2 7) f_8 f_9 f_10 f_11)) : (tOK (s.2 6)) := by
  obtain ⟨ht, ha, hl⟩ := hp
  have hN := tOK_N ht
  have hg := nx_rng (s.2 6) (s.2 7)
  (try simp only [bI_0, bI_n, Classical.not_not] at *)
  (try have hq := ‹GO (s.2 6) (s.2 7) _ _ _ _›)
  (try have hq := hI.2.1)
  (try have hx := GO_at hq (x := a1) (by omega) (by omega))
  (try have hN2 : 0 < s.2 6 2 := lOK_N ht hl (by omega))
  (try have hy := GO_at hq (x := x3) (by omega) (by omega))
  (try (have hz := mostT_ex (h := s.2 6) (a := s.2 7) hN2; obtain ⟨iz, hz0, hz1, hz2⟩ := hz))
  (try have hi := hI.2.2.2.2.2 iz hz0)
  (try have hzq := (hq iz hz0 hz1).1.2)
  (try unfold lex3)
  (try simp only [bI_0, bI_n, Classical.not_not] at *)
  (try simp (disch := omega) only [i32_id] at *)
  first | done | omega | ((repeat' (with_reducible apply And.intro)) <;> first | assumption | rfl | omega | (exact hI.1) | (exact hI.2.1) | (exact hq) | (unfold rMost; rw [if_neg (by omega)]) | (unfold rMost; rw [if_pos (by omega), if_pos (by omega)]; exact mostT_eq hq) | (unfold rMost; rw [if_pos (by omega), if_neg (by omega), if_neg (by omega), mostT_eq hq]; exact GO_many hq _) | (exact mostT_eq hq) | (intro z h0 h1; omega) | (unfold rMost; rw [if_pos (by omega), if_neg (by omega), if_pos (by omega)]; exact nth_eq (isNth_first hI.2.2.2.1.1 hI.2.2.2.1.2 (by show tl _ _ = _; omega) (fun z h0 h1 => by have := hI.2.2.2.2.2 z h0 h1; have := (hq z h0 (by omega)).1.2; show ¬ tl _ _ = _; omega))) | (intro z h0 h1; by_cases e : z = x3; (focus (rw [e]; assumption)); (focus (exact hI.2.2.2.2.2 z h0 (by omega)))) | grind [upI])
theorem vX3_most_9 (s : MS) (a1 : Int) (hp : tOK (s.2 6) ∧ aOK (s.2 6) (s.2 7) ∧ lOK ((s.2 5) 0) (s.2 6)) (c_2 : ¬ (bI (0 < (s.2 5) 0)) = 0) (c_4 : ¬ (bI ((0 : Int) ≤ a1 ∧ a1 ≤ (2 : Int))) = 0) (o_5 : (tOK (s.2 6) ∧ aOK (s.2 6) (s.2 7))) (f_6 : Int → Int) (f_7 : Int → Int) (f_8 : Int → Int) (f_9 : Int → Int) (f_10 : Int → Int) (f_11 : Int → Int) (f_12 : Int → Int) (k_13 : Int) (q_14 : (GO (s.2 6) (s.2 7) f_8 f_9 f_10 f_11)) (o_15 : (tOK (s.2 6))) (c_17 : a1 = 1) : (0 : Int) = 0 ∧ GO (s.2 6) (s.2 7) f_8 f_9 f_10 f_11 ∧ (0 < s.2 5 0 ∧ a1 = 1) ∧ (0 ≤ (0 : Int) ∧ (0 : Int) < s.2 6 2) ∧ (maxI 0 f_9 ((s.2 6) 2).toNat) = mostT (s.2 6) (s.2 7) ∧ ∀ z : Int, 0 ≤ z → z < (0 : Int) → f_9 z ≠ (maxI 0 f_9 ((s.2 6) 2).toNat) := by
  obtain ⟨ht, ha, hl⟩ := hp
  have hN := tOK_N ht
  have hg := nx_rng (s.2 6) (s.2 7)
  (try simp only [bI_0, bI_n, Classical.not_not] at *)
  (try have hq := ‹GO (s.2 6) (s.2 7) _ _ _ _›)
  (try have hq := hI.2.1)
  (try have hx := GO_at hq (x := a1) (by omega) (by omega))
  (try have hN2 : 0 < s.2 6 2 := lOK_N ht hl (by omega))
  (try have hy := GO_at hq (x := x3) (by omega) (by omega))
  (try (have hz := mostT_ex (h := s.2 6) (a := s.2 7) hN2; obtain ⟨iz, hz0, hz1, hz2⟩ := hz))
  (try have hi := hI.2.2.2.2.2 iz hz0)
  (try have hzq := (hq iz hz0 hz1).1.2)
  (try unfold lex3)
  (try simp only [bI_0, bI_n, Classical.not_not] at *)
  (try simp (disch := omega) only [i32_id] at *)
  first | done | omega | ((repeat' (with_reducible apply And.intro)) <;> first | assumption | rfl | omega | (exact hI.1) | (exact hI.2.1) | (exact hq) | (unfold rMost; rw [if_neg (by omega)]) | (unfold rMost; rw [if_pos (by omega), if_pos (by omega)]; exact mostT_eq hq) | (unfold rMost; rw [if_pos (by omega), if_neg (by omega), if_neg (by omega), mostT_eq hq]; exact GO_many hq _) | (exact mostT_eq hq) | (intro z h0 h1; omega) | (unfold rMost; rw [if_pos (by omega), if_neg (by omega), if_pos (by omega)]; exact nth_eq (isNth_first hI.2.2.2.1.1 hI.2.2.2.1.2 (by show tl _ _ = _; omega) (fun z h0 h1 => by have := hI.2.2.2.2.2 z h0 h1; have := (hq z h0 (by omega)).1.2; show ¬ tl _ _ = _; omega))) | (intro z h0 h1; by_cases e : z = x3; (focus (rw [e]; assumption)); (focus (exact hI.2.2.2.2.2 z h0 (by omega)))) | grind [upI])
theorem vX3_most_10 (s : MS) (a1 : Int) (hp : tOK (s.2 6) ∧ aOK (s.2 6) (s.2 7) ∧ lOK ((s.2 5) 0) (s.2 6)) (c_2 : ¬ (bI (0 < (s.2 5) 0)) = 0) (c_4 : ¬ (bI ((0 : Int) ≤ a1 ∧ a1 ≤ (2 : Int))) = 0) (o_5 : (tOK (s.2 6) ∧ aOK (s.2 6) (s.2 7))) (f_6 : Int → Int) (f_7 : Int → Int) (f_8 : Int → Int) (f_9 : Int → Int) (f_10 : Int → Int) (f_11 : Int → Int) (f_12 : Int → Int) (k_13 : Int) (q_14 : (GO (s.2 6) (s.2 7) f_8 f_9 f_10 f_11)) (o_15 : (tOK (s.2 6))) (c_17 : ¬ a1 = 1) (c_18 : ¬ a1 = 0) : (many (fun x => f_9 x = (maxI 0 f_9 ((s.2 6) 2).toNat)) ((s.2 6) 2).toNat) = (rMost ((s.2 5) 0) (s.2 6) (s.2 7) a1) := by
  obtain ⟨ht, ha, hl⟩ := hp
  have hN := tOK_N ht
  have hg := nx_rng (s.2 6) (s.2 7)
  (try simp only [bI_0, bI_n, Classical.not_not] at *)
  (try have hq := ‹GO (s.2 6) (s.2 7) _ _ _ _›)
  (try have hq := hI.2.1)
  (try have hx := GO_at hq (x := a1) (by omega) (by omega))
  (try have hN2 : 0 < s.2 6 2 := lOK_N ht hl (by omega))
  (try have hy := GO_at hq (x := x3) (by omega) (by omega))
  (try (have hz := mostT_ex (h := s.2 6) (a := s.2 7) hN2; obtain ⟨iz, hz0, hz1, hz2⟩ := hz))
  (try have hi := hI.2.2.2.2.2 iz hz0)
  (try have hzq := (hq iz hz0 hz1).1.2)
  (try unfold lex3)
  (try simp only [bI_0, bI_n, Classical.not_not] at *)
  (try simp (disch := omega) only [i32_id] at *)
  first | done | omega | ((repeat' (with_reducible apply And.intro)) <;> first | assumption | rfl | omega | (exact hI.1) | (exact hI.2.1) | (exact hq) | (unfold rMost; rw [if_neg (by omega)]) | (unfold rMost; rw [if_pos (by omega), if_pos (by omega)]; exact mostT_eq hq) | (unfold rMost; rw [if_pos (by omega), if_neg (by omega), if_neg (by omega), mostT_eq hq]; exact GO_many hq _) | (exact mostT_eq hq) | (intro z h0 h1; omega) | (unfold rMost; rw [if_pos (by omega), if_neg (by omega), if_pos (by omega)]; exact nth_eq (isNth_first hI.2.2.2.1.1 hI.2.2.2.1.2 (by show tl _ _ = _; omega) (fun z h0 h1 => by have := hI.2.2.2.2.2 z h0 h1; have := (hq z h0 (by omega)).1.2; show ¬ tl _ _ = _; omega))) | (intro z h0 h1; by_cases e : z = x3; (focus (rw [e]; assumption)); (focus (exact hI.2.2.2.2.2 z h0 (by omega)))) | grind [upI])
theorem vX3_most_11 (s : MS) (a1 : Int) (hp : tOK (s.2 6) ∧ aOK (s.2 6) (s.2 7) ∧ lOK ((s.2 5) 0) (s.2 6)) (c_2 : ¬ (bI (0 < (s.2 5) 0)) = 0) (c_4 : ¬ (bI ((0 : Int) ≤ a1 ∧ a1 ≤ (2 : Int))) = 0) (o_5 : (tOK (s.2 6) ∧ aOK (s.2 6) (s.2 7))) (f_6 : Int → Int) (f_7 : Int → Int) (f_8 : Int → Int) (f_9 : Int → Int) (f_10 : Int → Int) (f_11 : Int → Int) (f_12 : Int → Int) (k_13 : Int) (q_14 : (GO (s.2 6) (s.2 7) f_8 f_9 f_10 f_11)) (o_15 : (tOK (s.2 6))) (c_17 : ¬ a1 = 1) (c_18 : a1 = 0) : (maxI 0 f_9 ((s.2 6) 2).toNat) = (rMost ((s.2 5) 0) (s.2 6) (s.2 7) a1) := by
  obtain ⟨ht, ha, hl⟩ := hp
  have hN := tOK_N ht
  have hg := nx_rng (s.2 6) (s.2 7)
  (try simp only [bI_0, bI_n, Classical.not_not] at *)
  (try have hq := ‹GO (s.2 6) (s.2 7) _ _ _ _›)
  (try have hq := hI.2.1)
  (try have hx := GO_at hq (x := a1) (by omega) (by omega))
  (try have hN2 : 0 < s.2 6 2 := lOK_N ht hl (by omega))
  (try have hy := GO_at hq (x := x3) (by omega) (by omega))
  (try (have hz := mostT_ex (h := s.2 6) (a := s.2 7) hN2; obtain ⟨iz, hz0, hz1, hz2⟩ := hz))
  (try have hi := hI.2.2.2.2.2 iz hz0)
  (try have hzq := (hq iz hz0 hz1).1.2)
  (try unfold lex3)
  (try simp only [bI_0, bI_n, Classical.not_not] at *)
  (try simp (disch := omega) only [i32_id] at *)
  first | done | omega | ((repeat' (with_reducible apply And.intro)) <;> first | assumption | rfl | omega | (exact hI.1) | (exact hI.2.1) | (exact hq) | (unfold rMost; rw [if_neg (by omega)]) | (unfold rMost; rw [if_pos (by omega), if_pos (by omega)]; exact mostT_eq hq) | (unfold rMost; rw [if_pos (by omega), if_neg (by omega), if_neg (by omega), mostT_eq hq]; exact GO_many hq _) | (exact mostT_eq hq) | (intro z h0 h1; omega) | (unfold rMost; rw [if_pos (by omega), if_neg (by omega), if_pos (by omega)]; exact nth_eq (isNth_first hI.2.2.2.1.1 hI.2.2.2.1.2 (by show tl _ _ = _; omega) (fun z h0 h1 => by have := hI.2.2.2.2.2 z h0 h1; have := (hq z h0 (by omega)).1.2; show ¬ tl _ _ = _; omega))) | (intro z h0 h1; by_cases e : z = x3; (focus (rw [e]; assumption)); (focus (exact hI.2.2.2.2.2 z h0 (by omega)))) | grind [upI])
theorem vX3_most_12 (s : MS) (a1 : Int) (hp : tOK (s.2 6) ∧ aOK (s.2 6) (s.2 7) ∧ lOK ((s.2 5) 0) (s.2 6)) (c_2 : ¬ (bI (0 < (s.2 5) 0)) = 0) (c_4 : (bI ((0 : Int) ≤ a1 ∧ a1 ≤ (2 : Int))) = 0) : (-2) = (rMost ((s.2 5) 0) (s.2 6) (s.2 7) a1) := by
  obtain ⟨ht, ha, hl⟩ := hp
  have hN := tOK_N ht
  have hg := nx_rng (s.2 6) (s.2 7)
  (try simp only [bI_0, bI_n, Classical.not_not] at *)
  (try have hq := ‹GO (s.2 6) (s.2 7) _ _ _ _›)
  (try have hq := hI.2.1)
  (try have hx := GO_at hq (x := a1) (by omega) (by omega))
  (try have hN2 : 0 < s.2 6 2 := lOK_N ht hl (by omega))
  (try have hy := GO_at hq (x := x3) (by omega) (by omega))
  (try (have hz := mostT_ex (h := s.2 6) (a := s.2 7) hN2; obtain ⟨iz, hz0, hz1, hz2⟩ := hz))
  (try have hi := hI.2.2.2.2.2 iz hz0)
  (try have hzq := (hq iz hz0 hz1).1.2)
  (try unfold lex3)
  (try simp only [bI_0, bI_n, Classical.not_not] at *)
  (try simp (disch := omega) only [i32_id] at *)
  first | done | omega | ((repeat' (with_reducible apply And.intro)) <;> first | assumption | rfl | omega | (exact hI.1) | (exact hI.2.1) | (exact hq) | (unfold rMost; rw [if_neg (by omega)]) | (unfold rMost; rw [if_pos (by omega), if_pos (by omega)]; exact mostT_eq hq) | (unfold rMost; rw [if_pos (by omega), if_neg (by omega), if_neg (by omega), mostT_eq hq]; exact GO_many hq _) | (exact mostT_eq hq) | (intro z h0 h1; omega) | (unfold rMost; rw [if_pos (by omega), if_neg (by omega), if_pos (by omega)]; exact nth_eq (isNth_first hI.2.2.2.1.1 hI.2.2.2.1.2 (by show tl _ _ = _; omega) (fun z h0 h1 => by have := hI.2.2.2.2.2 z h0 h1; have := (hq z h0 (by omega)).1.2; show ¬ tl _ _ = _; omega))) | (intro z h0 h1; by_cases e : z = x3; (focus (rw [e]; assumption)); (focus (exact hI.2.2.2.2.2 z h0 (by omega)))) | grind [upI])
theorem allX3_most (b : AH) (s : MS) (a1 : Int) (hp : tOK (s.2 6) ∧ aOK (s.2 6) (s.2 7) ∧ lOK ((s.2 5) 0) (s.2 6)) : ∀ m1 m2 m3 : Nat, (∀ (x2 : Int) (x3 : Int) (f11 : Int → Int) (f12 : Int → Int) (f13 : Int → Int) (f14 : Int → Int) (f15 : Int → Int) (f16 : Int → Int) (f17 : Int → Int) (f18 : Int → Int) (f19 : Int → Int) (k0 : Int) (k25 : Int) (k33 : Int) (k34 : Int), m1 = 0 → m2 = 0 → m3 = ((s.2 6 2 - x3).toNat) → (k0 = 0 ∧ GO (s.2 6) (s.2 7) f13 f14 f15 f16 ∧ (0 < s.2 5 0 ∧ a1 = 1) ∧ (0 ≤ x3 ∧ x3 < s.2 6 2) ∧ x2 = mostT (s.2 6) (s.2 7) ∧ ∀ z : Int, 0 ≤ z → z < x3 → f14 z ≠ x2) → HX3_most_57 (QX3_most s a1) b s x2 x3 f11 f12 f13 f14 f15 f16 f17 f18 f19 k0 k25 k33 k34) := by
  refine lex3_ind ?_
  intro m1 m2 m3 ih
  rintro x2 x3 f11 f12 f13 f14 f15 f16 f17 f18 f19 k0 k25 k33 k34 rfl rfl rfl hI
  refine bX3_most_57 b s x2 x3 f11 f12 f13 f14 f15 f16 f17 f18 f19 k0 k25 k33 k34 ?_
  have o_1 : (0 ≤ x3 ∧ x3 < 10000) := (vX3_most_1 s a1 hp x2 x3 f11 f12 f13 f14 f15 f16 f17 f18 f19 k0 k25 k33 k34 hI)
  refine ⟨o_1, ?_⟩
  refine ⟨fun c_2 => ?_, fun c_2 => ?_⟩
  · exact ⟨f11, f12, f13, f14, f15, f16, f17, f18, f19, k25, k33, k34, (rI_c (vX3_most_3 s a1 hp x2 x3 f11 f12 f13 f14 f15 f16 f17 f18 f19 k0 k25 k33 k34 hI o_1 c_2)), (sS_c (sS_c (sS_c (sS_c (sA_c (sA_c (sA_c (sA_c (sA_c (sA_c (sA_c (sA_c (sA_c rfl rfl) rfl) rfl) rfl) rfl) rfl) rfl) rfl) rfl) (vX3_most_2 s a1 hp x2 x3 f11 f12 f13 f14 f15 f16 f17 f18 f19 k0 k25 k33 k34 hI o_1 c_2)) rfl) rfl) rfl)⟩
  · exact (ih _ _ _ (vX3_most_5 s a1 hp x2 x3 f11 f12 f13 f14 f15 f16 f17 f18 f19 k0 k25 k33 k34 hI o_1 c_2)) x2 (i32 (x3 + 1)) f11 f12 f13 f14 f15 f16 f17 f18 f19 k0 k25 k33 k34 rfl rfl rfl (vX3_most_4 s a1 hp x2 x3 f11 f12 f13 f14 f15 f16 f17 f18 f19 k0 k25 k33 k34 hI o_1 c_2)
theorem ctX3_most (b : AH) (s : MS) (a1 : Int) (hp : tOK (s.2 6) ∧ aOK (s.2 6) (s.2 7) ∧ lOK ((s.2 5) 0) (s.2 6)) : MC mX3_most 9 b s [vI a1] (QX3_most s a1) := by
  refine MC.of (by decide) rfl (Nat.le_of_ble_eq_true rfl) (JW.steq (s2 := sS (sS (sS (sS (sA (sA (sA (sA (sA (sA (sA (sA (sA s 11 (s.2 11)) 12 (s.2 12)) 13 (s.2 13)) 14 (s.2 14)) 15 (s.2 15)) 16 (s.2 16)) 17 (s.2 17)) 18 (s.2 18)) 19 (s.2 19)) 0 (s.1 0)) 25 (s.1 25)) 33 (s.1 33)) 34 (s.1 34)) (by simp only [sA_id, sS_id]) ?_)
  refine bX3_most_0 b s a1 (s.2 11) (s.2 12) (s.2 13) (s.2 14) (s.2 15) (s.2 16) (s.2 17) (s.2 18) (s.2 19) (s.1 0) (s.1 25) (s.1 33) (s.1 34) ?_
  refine ⟨fun c_2 => ?_, fun c_2 => ?_⟩
  · exact ⟨(s.2 11), (s.2 12), (s.2 13), (s.2 14), (s.2 15), (s.2 16), (s.2 17), (s.2 18), (s.2 19), (s.1 25), (s.1 33), (s.1 34), (rI_c (vX3_most_6 s a1 hp c_2)), rfl⟩
  · refine ⟨fun c_4 => ?_, fun c_4 => ?_⟩
    · have o_5 : (tOK (s.2 6) ∧ aOK (s.2 6) (s.2 7)) := (vX3_most_7 s a1 hp c_2 c_4)
      refine ⟨o_5, ?_⟩
      intro f_6 f_7 f_8 f_9 f_10 f_11 f_12 k_13 q_14
      have o_15 : (tOK (s.2 6)) := (vX3_most_8 s a1 hp c_2 c_4 o_5 f_6 f_7 f_8 f_9 f_10 f_11 f_12 k_13 q_14)
      refine ⟨o_15, ?_⟩
      refine ⟨fun c_17 => ?_, fun c_17 => ?_⟩
      · exact (allX3_most b s a1 hp _ _ _) (maxI 0 f_9 ((s.2 6) 2).toNat) 0 f_6 f_7 f_8 f_9 f_10 f_11 f_12 (s.2 18) (s.2 19) 0 k_13 (s.1 33) (s.1 34) rfl rfl rfl (vX3_most_9 s a1 hp c_2 c_4 o_5 f_6 f_7 f_8 f_9 f_10 f_11 f_12 k_13 q_14 o_15 c_17)
      · refine ⟨fun c_18 => ?_, fun c_18 => ?_⟩
        · exact ⟨f_6, f_7, f_8, f_9, f_10, f_11, f_12, (s.2 18), (s.2 19), k_13, (s.1 33), (s.1 34), (rI_c (vX3_most_10 s a1 hp c_2 c_4 o_5 f_6 f_7 f_8 f_9 f_10 f_11 f_12 k_13 q_14 o_15 c_17 c_18)), rfl⟩
        · exact ⟨f_6, f_7, f_8, f_9, f_10, f_11, f_12, (s.2 18), (s.2 19), k_13, (s.1 33), (s.1 34), (rI_c (vX3_most_11 s a1 hp c_2 c_4 o_5 f_6 f_7 f_8 f_9 f_10 f_11 f_12 k_13 q_14 o_15 c_17 c_18)), rfl⟩
    · exact ⟨(s.2 11), (s.2 12), (s.2 13), (s.2 14), (s.2 15), (s.2 16), (s.2 17), (s.2 18), (s.2 19), (s.1 25), (s.1 33), (s.1 34), (rI_c (vX3_most_12 s a1 hp c_2 c_4)), rfl⟩
def HX3_take_0 (Q : Option AV → MS → Prop) (b : AH) (s : MS) (x1 : Int) (f11 : Int → Int) (f12 : Int → Int) (f13 : Int → Int) (f14 : Int → Int) (f15 : Int → Int) (f16 : Int → Int) (f17 : Int → Int) (f18 : Int → Int) (f19 : Int → Int) (k0 : Int) (k25 : Int) (k33 : Int) (k34 : Int) : Prop := MW mX3_take 9 Q b 0 [(0, vR 351), (1, vI x1)] [] (sS (sS (sS (sS (sA (sA (sA (sA (sA (sA (sA (sA (sA s 11 f11) 12 f12) 13 f13) 14 f14) 15 f15) 16 f16) 17 f17) 18 f18) 19 f19) 0 k0) 25 k25) 33 k33) 34 k34)
theorem bX3_take_0 {Q : Option AV → MS → Prop} (b : AH) (s : MS) (x1 : Int) (f11 : Int → Int) (f12 : Int → Int) (f13 : Int → Int) (f14 : Int → Int) (f15 : Int → Int) (f16 : Int → Int) (f17 : Int → Int) (f18 : Int → Int) (f19 : Int → Int) (k0 : Int) (k25 : Int) (k33 : Int) (k34 : Int) (K : ((bI (0 < (s.2 5) 0)) = 0 → Q (some (vI (-2))) (sS (sS (sS (sS (sA (sA (sA (sA (sA (sA (sA (sA (sA s 11 f11) 12 f12) 13 f13) 14 f14) 15 f15) 16 f16) 17 f17) 18 f18) 19 f19) 0 0) 25 k25) 33 k33) 34 k34)) ∧ (¬ (bI (0 < (s.2 5) 0)) = 0 → (0 ≤ x1 → (tOK (s.2 6) ∧ aOK (s.2 6) (s.2 7)) ∧ ((∀ (f_5 : Int → Int) (f_6 : Int → Int) (f_7 : Int → Int) (f_8 : Int → Int) (f_9 : Int → Int) (f_10 : Int → Int) (f_11 : Int → Int) (k_12 : Int), (GO (s.2 6) (s.2 7) f_7 f_8 f_9 f_10) → (tOK (s.2 6)) ∧ (Q (some (vI (many (fun x => f_8 x = x1) ((s.2 6) 2).toNat))) (sS (sS (sS (sS (sA (sA (sA (sA (sA (sA (sA (sA (sA s 11 f_5) 12 f_6) 13 f_7) 14 f_8) 15 f_9) 16 f_10) 17 f_11) 18 f18) 19 f19) 0 0) 25 k_12) 33 k33) 34 k34))))) ∧ (¬ 0 ≤ x1 → Q (some (vI (-2))) (sS (sS (sS (sS (sA (sA (sA (sA (sA (sA (sA (sA (sA s 11 f11) 12 f12) 13 f13) 14 f14) 15 f15) 16 f16) 17 f17) 18 f18) 19 f19) 0 0) 25 k25) 33 k33) 34 k34)))) : HX3_take_0 Q b s x1 f11 f12 f13 f14 f15 f16 f17 f18 f19 k0 k25 k33 k34 := by
  refine JW.aload_n dX3_take_0 rfl ?_
  refine JW.iconst dX3_take_1 rfl ?_
  refine JW.mputI dX3_take_2 (pX3_77 _) rfl ?_
  refine JW.steq (s2 := sS (sS (sS (sS (sA (sA (sA (sA (sA (sA (sA (sA (sA s 11 f11) 12 f12) 13 f13) 14 f14) 15 f15) 16 f16) 17 f17) 18 f18) 19 f19) 0 0) 25 k25) 33 k33) 34 k34) (by simp only [sA_A, sS_S, sA_S, sA_lt, sS_lt, Nat.reduceLT, id_eq] <;> rfl) ?_
  refine JW.aload_n dX3_take_5 rfl ?_
  refine JW.mcall (As := []) dX3_take_6 vX3_isTable rfl q1798 (ctX3_isTable b (sS (sS (sS (sS (sA (sA (sA (sA (sA (sA (sA (sA (sA s 11 f11) 12 f12) 13 f13) 14 f14) 15 f15) 16 f16) 17 f17) 18 f18) 19 f19) 0 0) 25 k25) 33 k33) 34 k34)) (Nat.le_of_ble_eq_true rfl) rfl (Nat.le_of_ble_eq_true rfl) ?_
  rintro _ _ ⟨rfl, eq_1⟩
  refine JW.steq (s2 := sS (sS (sS (sS (sA (sA (sA (sA (sA (sA (sA (sA (sA s 11 f11) 12 f12) 13 f13) 14 f14) 15 f15) 16 f16) 17 f17) 18 f18) 19 f19) 0 0) 25 k25) 33 k33) 34 k34) eq_1 ?_
  refine JW.if_eq (tgt := 16) dX3_take_9 rfl (fun c_2 => ?_) (fun c_2 => ?_)
  · have K := K.1 c_2
    refine JW.bipush dX3_take_16 rfl ?_
    exact JW.ireturn dX3_take_18 rfl rfl ⟨_, rfl, K⟩
  · have K := K.2 c_2
    refine JW.iload_n dX3_take_12 rfl ?_
    refine JW.if_ge (tgt := 19) dX3_take_13 rfl (fun c_3 => ?_) (fun c_3 => ?_)
    · have K := K.1 c_3
      refine JW.aload_n dX3_take_19 rfl ?_
      obtain ⟨o_4, K⟩ := K
      refine JW.mcall (As := []) dX3_take_20 vX3_all rfl q1863 (ctX3_all b (sS (sS (sS (sS (sA (sA (sA (sA (sA (sA (sA (sA (sA s 11 f11) 12 f12) 13 f13) 14 f14) 15 f15) 16 f16) 17 f17) 18 f18) 19 f19) 0 0) 25 k25) 33 k33) 34 k34) o_4) (Nat.le_of_ble_eq_true rfl) rfl (Nat.le_of_ble_eq_true rfl) ?_
      rintro _ _ ⟨f_5, f_6, f_7, f_8, f_9, f_10, f_11, k_12, rfl, rfl, q_13⟩
      refine JW.steq (s2 := sS (sS (sS (sS (sA (sA (sA (sA (sA (sA (sA (sA (sA s 11 f_5) 12 f_6) 13 f_7) 14 f_8) 15 f_9) 16 f_10) 17 f_11) 18 f18) 19 f19) 0 0) 25 k_12) 33 k33) 34 k34) (by simp only [sA_A, sS_S, sA_S, sA_lt, sS_lt, Nat.reduceLT, id_eq] <;> rfl) ?_
      replace K := K f_5 f_6 f_7 f_8 f_9 f_10 f_11 k_12 q_13
      refine JW.aload_n dX3_take_23 rfl ?_
      refine JW.iload_n dX3_take_24 rfl ?_
      obtain ⟨o_14, K⟩ := K
      refine JW.mcall (As := [vI x1]) dX3_take_25 vX3_manyOf rfl q1928 (ctX3_manyOf b (sS (sS (sS (sS (sA (sA (sA (sA (sA (sA (sA (sA (sA s 11 f_5) 12 f_6) 13 f_7) 14 f_8) 15 f_9) 16 f_10) 17 f_11) 18 f18) 19 f19) 0 0) 25 k_12) 33 k33) 34 k34) x1 o_14) (Nat.le_of_ble_eq_true rfl) rfl (Nat.le_of_ble_eq_true rfl) ?_
      rintro _ _ ⟨rfl, eq_15⟩
      refine JW.steq (s2 := sS (sS (sS (sS (sA (sA (sA (sA (sA (sA (sA (sA (sA s 11 f_5) 12 f_6) 13 f_7) 14 f_8) 15 f_9) 16 f_10) 17 f_11) 18 f18) 19 f19) 0 0) 25 k_12) 33 k33) 34 k34) eq_15 ?_
      exact JW.ireturn dX3_take_28 rfl rfl ⟨_, rfl, K⟩
    · have K := K.2 c_3
      refine JW.bipush dX3_take_16 rfl ?_
      exact JW.ireturn dX3_take_18 rfl rfl ⟨_, rfl, K⟩
def QX3_take (s : MS) (a1 : Int) : Option AV → MS → Prop := fun v s' => ∃ (f11 : Int → Int) (f12 : Int → Int) (f13 : Int → Int) (f14 : Int → Int) (f15 : Int → Int) (f16 : Int → Int) (f17 : Int → Int) (f18 : Int → Int) (f19 : Int → Int) (k25 : Int) (k33 : Int) (k34 : Int), v = some (vI (rTake ((s.2 5) 0) (s.2 6) (s.2 7) a1)) ∧ s' = sS (sS (sS (sS (sA (sA (sA (sA (sA (sA (sA (sA (sA s 11 f11) 12 f12) 13 f13) 14 f14) 15 f15) 16 f16) 17 f17) 18 f18) 19 f19) 0 (0)) 25 k25) 33 k33) 34 k34
theorem vX3_take_1 (s : MS) (a1 : Int) (hp : tOK (s.2 6) ∧ aOK (s.2 6) (s.2 7) ∧ lOK ((s.2 5) 0) (s.2 6)) (c_2 : (bI (0 < (s.2 5) 0)) = 0) : (-2) = (rTake ((s.2 5) 0) (s.2 6) (s.2 7) a1) := by
  obtain ⟨ht, ha, hl⟩ := hp
  have hN := tOK_N ht
  have hg := nx_rng (s.2 6) (s.2 7)
  (try simp only [bI_0, bI_n, Classical.not_not] at *)
  (try have hq := ‹GO (s.2 6) (s.2 7) _ _ _ _›)
  (try have hq := hI.2.1)
  (try have hx := GO_at hq (x := a1) (by omega) (by omega))
  (try have hN2 : 0 < s.2 6 2 := lOK_N ht hl (by omega))
  (try unfold lex3)
  (try simp only [bI_0, bI_n, Classical.not_not] at *)
  (try simp (disch := omega) only [i32_id] at *)
  first | done | omega | ((repeat' (with_reducible apply And.intro)) <;> first | assumption | rfl | omega | (unfold rTake; rw [if_neg (by omega)]) | (unfold rTake; rw [if_pos (by omega)]; exact GO_many hq _) | grind [upI])
theorem vX3_take_2 (s : MS) (a1 : Int) (hp : tOK (s.2 6) ∧ aOK (s.2 6) (s.2 7) ∧ lOK ((s.2 5) 0) (s.2 6)) (c_2 : ¬ (bI (0 < (s.2 5) 0)) = 0) (c_3 : 0 ≤ a1) : (tOK (s.2 6) ∧ aOK (s.2 6) (s.2 7)) := by
  obtain ⟨ht, ha, hl⟩ := hp
  have hN := tOK_N ht
  have hg := nx_rng (s.2 6) (s.2 7)
  (try simp only [bI_0, bI_n, Classical.not_not] at *)
  (try have hq := ‹GO (s.2 6) (s.2 7) _ _ _ _›)
  (try have hq := hI.2.1)
  (try have hx := GO_at hq (x := a1) (by omega) (by omega))
  (try have hN2 : 0 < s.2 6 2 := lOK_N ht hl (by omega))
  (try unfold lex3)
  (try simp only [bI_0, bI_n, Classical.not_not] at *)
  (try simp (disch := omega) only [i32_id] at *)
  first | done | omega | ((repeat' (with_reducible apply And.intro)) <;> first | assumption | rfl | omega | (unfold rTake; rw [if_neg (by omega)]) | (unfold rTake; rw [if_pos (by omega)]; exact GO_many hq _) | grind [upI])
theorem vX3_take_3 (s : MS) (a1 : Int) (hp : tOK (s.2 6) ∧ aOK (s.2 6) (s.2 7) ∧ lOK ((s.2 5) 0) (s.2 6)) (c_2 : ¬ (bI (0 < (s.2 5) 0)) = 0) (c_3 : 0 ≤ a1) (o_4 : (tOK (s.2 6) ∧ aOK (s.2 6) (s.2 7))) (f_5 : Int → Int) (f_6 : Int → Int) (f_7 : Int → Int) (f_8 : Int → Int) (f_9 : Int → Int) (f_10 : Int → Int) (f_11 : Int → Int) (k_12 : Int) (q_13 : (GO (s.2 6) (s.2 7) f_7 f_8 f_9 f_10)) : (tOK (s.2 6)) := by
  obtain ⟨ht, ha, hl⟩ := hp
  have hN := tOK_N ht
  have hg := nx_rng (s.2 6) (s.2 7)
  (try simp only [bI_0, bI_n, Classical.not_not] at *)
  (try have hq := ‹GO (s.2 6) (s.2 7) _ _ _ _›)
  (try have hq := hI.2.1)
  (try have hx := GO_at hq (x := a1) (by omega) (by omega))
  (try have hN2 : 0 < s.2 6 2 := lOK_N ht hl (by omega))
  (try unfold lex3)
  (try simp only [bI_0, bI_n, Classical.not_not] at *)
  (try simp (disch := omega) only [i32_id] at *)
  first | done | omega | ((repeat' (with_reducible apply And.intro)) <;> first | assumption | rfl | omega | (unfold rTake; rw [if_neg (by omega)]) | (unfold rTake; rw [if_pos (by omega)]; exact GO_many hq _) | grind [upI])
theorem vX3_take_4 (s : MS) (a1 : Int) (hp : tOK (s.2 6) ∧ aOK (s.2 6) (s.2 7) ∧ lOK ((s.2 5) 0) (s.2 6)) (c_2 : ¬ (bI (0 < (s.2 5) 0)) = 0) (c_3 : 0 ≤ a1) (o_4 : (tOK (s.2 6) ∧ aOK (s.2 6) (s.2 7))) (f_5 : Int → Int) (f_6 : Int → Int) (f_7 : Int → Int) (f_8 : Int → Int) (f_9 : Int → Int) (f_10 : Int → Int) (f_11 : Int → Int) (k_12 : Int) (q_13 : (GO (s.2 6) (s.2 7) f_7 f_8 f_9 f_10)) (o_14 : (tOK (s.2 6))) : (many (fun x => f_8 x = a1) ((s.2 6) 2).toNat) = (rTake ((s.2 5) 0) (s.2 6) (s.2 7) a1) := by
  obtain ⟨ht, ha, hl⟩ := hp
  have hN := tOK_N ht
  have hg := nx_rng (s.2 6) (s.2 7)
  (try simp only [bI_0, bI_n, Classical.not_not] at *)
  (try have hq := ‹GO (s.2 6) (s.2 7) _ _ _ _›)
  (try have hq := hI.2.1)
  (try have hx := GO_at hq (x := a1) (by omega) (by omega))
  (try have hN2 : 0 < s.2 6 2 := lOK_N ht hl (by omega))
  (try unfold lex3)
  (try simp only [bI_0, bI_n, Classical.not_not] at *)
  (try simp (disch := omega) only [i32_id] at *)
  first | done | omega | ((repeat' (with_reducible apply And.intro)) <;> first | assumption | rfl | omega | (unfold rTake; rw [if_neg (by omega)]) | (unfold rTake; rw [if_pos (by omega)]; exact GO_many hq _) | grind [upI])
theorem vX3_take_5 (s : MS) (a1 : Int) (hp : tOK (s.2 6) ∧ aOK (s.2 6) (s.2 7) ∧ lOK ((s.2 5) 0) (s.2 6)) (c_2 : ¬ (bI (0 < (s.2 5) 0)) = 0) (c_3 : ¬ 0 ≤ a1) : (-2) = (rTake ((s.2 5) 0) (s.2 6) (s.2 7) a1) := by
  obtain ⟨ht, ha, hl⟩ := hp
  have hN := tOK_N ht
  have hg := nx_rng (s.2 6) (s.2 7)
  (try simp only [bI_0, bI_n, Classical.not_not] at *)
  (try have hq := ‹GO (s.2 6) (s.2 7) _ _ _ _›)
  (try have hq := hI.2.1)
  (try have hx := GO_at hq (x := a1) (by omega) (by omega))
  (try have hN2 : 0 < s.2 6 2 := lOK_N ht hl (by omega))
  (try unfold lex3)
  (try simp only [bI_0, bI_n, Classical.not_not] at *)
  (try simp (disch := omega) only [i32_id] at *)
  first | done | omega | ((repeat' (with_reducible apply And.intro)) <;> first | assumption | rfl | omega | (unfold rTake; rw [if_neg (by omega)]) | (unfold rTake; rw [if_pos (by omega)]; exact GO_many hq _) | grind [upI])
theorem ctX3_take (b : AH) (s : MS) (a1 : Int) (hp : tOK (s.2 6) ∧ aOK (s.2 6) (s.2 7) ∧ lOK ((s.2 5) 0) (s.2 6)) : MC mX3_take 9 b s [vI a1] (QX3_take s a1) := by
  refine MC.of (by decide) rfl (Nat.le_of_ble_eq_true rfl) (JW.steq (s2 := sS (sS (sS (sS (sA (sA (sA (sA (sA (sA (sA (sA (sA s 11 (s.2 11)) 12 (s.2 12)) 13 (s.2 13)) 14 (s.2 14)) 15 (s.2 15)) 16 (s.2 16)) 17 (s.2 17)) 18 (s.2 18)) 19 (s.2 19)) 0 (s.1 0)) 25 (s.1 25)) 33 (s.1 33)) 34 (s.1 34)) (by simp only [sA_id, sS_id]) ?_)
  refine bX3_take_0 b s a1 (s.2 11) (s.2 12) (s.2 13) (s.2 14) (s.2 15) (s.2 16) (s.2 17) (s.2 18) (s.2 19) (s.1 0) (s.1 25) (s.1 33) (s.1 34) ?_
  refine ⟨fun c_2 => ?_, fun c_2 => ?_⟩
  · exact ⟨(s.2 11), (s.2 12), (s.2 13), (s.2 14), (s.2 15), (s.2 16), (s.2 17), (s.2 18), (s.2 19), (s.1 25), (s.1 33), (s.1 34), (rI_c (vX3_take_1 s a1 hp c_2)), rfl⟩
  · refine ⟨fun c_3 => ?_, fun c_3 => ?_⟩
    · have o_4 : (tOK (s.2 6) ∧ aOK (s.2 6) (s.2 7)) := (vX3_take_2 s a1 hp c_2 c_3)
      refine ⟨o_4, ?_⟩
      intro f_5 f_6 f_7 f_8 f_9 f_10 f_11 k_12 q_13
      have o_14 : (tOK (s.2 6)) := (vX3_take_3 s a1 hp c_2 c_3 o_4 f_5 f_6 f_7 f_8 f_9 f_10 f_11 k_12 q_13)
      refine ⟨o_14, ?_⟩
      exact ⟨f_5, f_6, f_7, f_8, f_9, f_10, f_11, (s.2 18), (s.2 19), k_12, (s.1 33), (s.1 34), (rI_c (vX3_take_4 s a1 hp c_2 c_3 o_4 f_5 f_6 f_7 f_8 f_9 f_10 f_11 k_12 q_13 o_14)), rfl⟩
    · exact ⟨(s.2 11), (s.2 12), (s.2 13), (s.2 14), (s.2 15), (s.2 16), (s.2 17), (s.2 18), (s.2 19), (s.1 25), (s.1 33), (s.1 34), (rI_c (vX3_take_5 s a1 hp c_2 c_3)), rfl⟩
def HX3_gardenOf_0 (Q : Option AV → MS → Prop) (b : AH) (s : MS) (x1 : Int) (f17 : Int → Int) : Prop := MW mX3_gardenOf 1 Q b 0 [(0, vR 351), (1, vI x1)] [] (sA s 17 f17)
def HX3_gardenOf_2 (Q : Option AV → MS → Prop) (b : AH) (s : MS) (x1 : Int) (x2 : Int) (f17 : Int → Int) : Prop := MW mX3_gardenOf 1 Q b 2 [(0, vR 351), (1, vI x1), (2, vI x2)] [] (sA s 17 f17)
def HX3_gardenOf_27 (Q : Option AV → MS → Prop) (b : AH) (s : MS) (x1 : Int) (x2 : Int) (f17 : Int → Int) : Prop := MW mX3_gardenOf 1 Q b 27 [(0, vR 351), (1, vI x1), (2, vI x2)] [] (sA s 17 f17)
def HX3_gardenOf_59 (Q : Option AV → MS → Prop) (b : AH) (s : MS) (x1 : Int) (x2 : Int) (x3 : Int) (f17 : Int → Int) : Prop := MW mX3_gardenOf 1 Q b 59 [(0, vR 351), (1, vI x1), (2, vI x2), (3, vI x3)] [] (sA s 17 f17)
theorem bX3_gardenOf_0 {Q : Option AV → MS → Prop} (b : AH) (s : MS) (x1 : Int) (f17 : Int → Int) (K : HX3_gardenOf_2 Q b s x1 0 f17) : HX3_gardenOf_0 Q b s x1 f17 := by
  refine JW.iconst dX3_gardenOf_0 rfl ?_
  refine JW.istore_n (ls' := [(0, vR 351), (1, vI x1), (2, vI 0)]) dX3_gardenOf_1 (Nat.le_of_ble_eq_true rfl) rfl ?_
  exact JW.pick [0, 1, 2] rfl K
theorem bX3_gardenOf_2 {Q : Option AV → MS → Prop} (b : AH) (s : MS) (x1 : Int) (x2 : Int) (f17 : Int → Int) (K : ((s.2 6 2) ≤ x2 → HX3_gardenOf_27 Q b s x1 0 f17) ∧ (¬ (s.2 6 2) ≤ x2 → (0 ≤ x2 ∧ x2 < 10000) ∧ (HX3_gardenOf_2 Q b s x1 (i32 (x2 + 1)) (upI f17 x2 0)))) : HX3_gardenOf_2 Q b s x1 x2 f17 := by
  refine JW.iload_n dX3_gardenOf_2 rfl ?_
  refine JW.aload_n dX3_gardenOf_3 rfl ?_
  refine JW.mget (v := vR 358) dX3_gardenOf_4 fX3_34 rfl ?_
  refine JW.iconst dX3_gardenOf_7 rfl ?_
  refine JW.mald 6 (x := (s.2 6 2)) dX3_gardenOf_8 (Nat.le_of_ble_eq_true rfl) rfl (by decide) (by decide) rfl ?_
  refine JW.icmp_ge (tgt := 25) dX3_gardenOf_9 rfl (fun c_1 => ?_) (fun c_1 => ?_)
  · have K := K.1 c_1
    refine JW.iconst dX3_gardenOf_25 rfl ?_
    refine JW.istore_n (ls' := [(0, vR 351), (1, vI x1), (2, vI 0)]) dX3_gardenOf_26 (Nat.le_of_ble_eq_true rfl) rfl ?_
    exact JW.pick [0, 1, 2] rfl K
  · have K := K.2 c_1
    refine JW.aload_n dX3_gardenOf_12 rfl ?_
    refine JW.mget (v := vR 369) dX3_gardenOf_13 fX3_68 rfl ?_
    refine JW.iload_n dX3_gardenOf_16 rfl ?_
    refine JW.iconst dX3_gardenOf_17 rfl ?_
    obtain ⟨o_2, K⟩ := K
    refine JW.mast 17 (f := f17) dX3_gardenOf_18 (Nat.le_of_ble_eq_true rfl) rfl o_2.1 o_2.2 rfl ?_
    refine JW.steq (s2 := sA s 17 (upI f17 x2 0)) (by simp only [sA_A, sS_S, sA_S, sA_lt, sS_lt, Nat.reduceLT, id_eq] <;> rfl) ?_
    refine JW.iinc (ls' := [(0, vR 351), (1, vI x1), (2, vI (i32 (x2 + 1)))]) dX3_gardenOf_19 (Nat.le_of_ble_eq_true rfl) rfl rfl ?_
    refine JW.goto (tgt := 2) dX3_gardenOf_22 rfl ?_
    exact JW.pick [0, 1, 2] rfl K
theorem bX3_gardenOf_27 {Q : Option AV → MS → Prop} (b : AH) (s : MS) (x1 : Int) (x2 : Int) (f17 : Int → Int) (K : ((s.2 6 2) ≤ x2 → HX3_gardenOf_59 Q b s x1 0 0 f17) ∧ (¬ (s.2 6 2) ≤ x2 → (0 ≤ x2 ∧ x2 < 10000) ∧ ((0 ≤ (s.2 13 x2) ∧ (s.2 13 x2) < 10000) ∧ (HX3_gardenOf_27 Q b s x1 (i32 (x2 + 1)) (upI f17 (s.2 13 x2) 1))))) : HX3_gardenOf_27 Q b s x1 x2 f17 := by
  refine JW.iload_n dX3_gardenOf_27 rfl ?_
  refine JW.aload_n dX3_gardenOf_28 rfl ?_
  refine JW.mget (v := vR 358) dX3_gardenOf_29 fX3_34 rfl ?_
  refine JW.iconst dX3_gardenOf_32 rfl ?_
  refine JW.mald 6 (x := (s.2 6 2)) dX3_gardenOf_33 (Nat.le_of_ble_eq_true rfl) rfl (by decide) (by decide) rfl ?_
  refine JW.icmp_ge (tgt := 55) dX3_gardenOf_34 rfl (fun c_1 => ?_) (fun c_1 => ?_)
  · have K := K.1 c_1
    refine JW.iconst dX3_gardenOf_55 rfl ?_
    refine JW.istore_n (ls' := [(0, vR 351), (1, vI x1), (2, vI 0)]) dX3_gardenOf_56 (Nat.le_of_ble_eq_true rfl) rfl ?_
    refine JW.iconst dX3_gardenOf_57 rfl ?_
    refine JW.istore_n (ls' := [(0, vR 351), (1, vI x1), (2, vI 0), (3, vI 0)]) dX3_gardenOf_58 (Nat.le_of_ble_eq_true rfl) rfl ?_
    exact JW.pick [0, 1, 2, 3] rfl K
  · have K := K.2 c_1
    refine JW.aload_n dX3_gardenOf_37 rfl ?_
    refine JW.mget (v := vR 369) dX3_gardenOf_38 fX3_68 rfl ?_
    refine JW.aload_n dX3_gardenOf_41 rfl ?_
    refine JW.mget (v := vR 365) dX3_gardenOf_42 fX3_56 rfl ?_
    refine JW.iload_n dX3_gardenOf_45 rfl ?_
    obtain ⟨o_2, K⟩ := K
    refine JW.mald 13 (x := (s.2 13 x2)) dX3_gardenOf_46 (Nat.le_of_ble_eq_true rfl) rfl o_2.1 o_2.2 rfl ?_
    refine JW.iconst dX3_gardenOf_47 rfl ?_
    obtain ⟨o_3, K⟩ := K
    refine JW.mast 17 (f := f17) dX3_gardenOf_48 (Nat.le_of_ble_eq_true rfl) rfl o_3.1 o_3.2 rfl ?_
    refine JW.steq (s2 := sA s 17 (upI f17 (s.2 13 x2) 1)) (by simp only [sA_A, sS_S, sA_S, sA_lt, sS_lt, Nat.reduceLT, id_eq] <;> rfl) ?_
    refine JW.iinc (ls' := [(0, vR 351), (1, vI x1), (2, vI (i32 (x2 + 1)))]) dX3_gardenOf_49 (Nat.le_of_ble_eq_true rfl) rfl rfl ?_
    refine JW.goto (tgt := 27) dX3_gardenOf_52 rfl ?_
    exact JW.pick [0, 1, 2] rfl K
theorem bX3_gardenOf_59 {Q : Option AV → MS → Prop} (b : AH) (s : MS) (x1 : Int) (x2 : Int) (x3 : Int) (f17 : Int → Int) (K : ((s.2 6 2) ≤ x3 → (¬ x1 = (-1) → Q (some (vI (-1))) (sA s 17 f17)) ∧ (x1 = (-1) → Q (some (vI x2)) (sA s 17 f17))) ∧ (¬ (s.2 6 2) ≤ x3 → (0 ≤ x3 ∧ x3 < 10000) ∧ ((¬ (f17 x3) = 1 → (¬ x2 = x1 → HX3_gardenOf_59 Q b s x1 (i32 (x2 + 1)) (i32 (x3 + 1)) f17) ∧ (x2 = x1 → Q (some (vI x3)) (sA s 17 f17))) ∧ ((f17 x3) = 1 → HX3_gardenOf_59 Q b s x1 x2 (i32 (x3 + 1)) f17)))) : HX3_gardenOf_59 Q b s x1 x2 x3 f17 := by
  refine JW.iload_n dX3_gardenOf_59 rfl ?_
  refine JW.aload_n dX3_gardenOf_60 rfl ?_
  refine JW.mget (v := vR 358) dX3_gardenOf_61 fX3_34 rfl ?_
  refine JW.iconst dX3_gardenOf_64 rfl ?_
  refine JW.mald 6 (x := (s.2 6 2)) dX3_gardenOf_65 (Nat.le_of_ble_eq_true rfl) rfl (by decide) (by decide) rfl ?_
  refine JW.icmp_ge (tgt := 98) dX3_gardenOf_66 rfl (fun c_1 => ?_) (fun c_1 => ?_)
  · have K := K.1 c_1
    refine JW.iload_n dX3_gardenOf_98 rfl ?_
    refine JW.iconst dX3_gardenOf_99 rfl ?_
    refine JW.icmp_ne (tgt := 107) dX3_gardenOf_100 rfl (fun c_2 => ?_) (fun c_2 => ?_)
    · have K := K.1 c_2
      refine JW.iconst dX3_gardenOf_107 rfl ?_
      exact JW.ireturn dX3_gardenOf_108 rfl rfl ⟨_, rfl, K⟩
    · have K := K.2 c_2
      refine JW.iload_n dX3_gardenOf_103 rfl ?_
      refine JW.goto (tgt := 108) dX3_gardenOf_104 rfl ?_
      exact JW.ireturn dX3_gardenOf_108 rfl rfl ⟨_, rfl, K⟩
  · have K := K.2 c_1
    refine JW.aload_n dX3_gardenOf_69 rfl ?_
    refine JW.mget (v := vR 369) dX3_gardenOf_70 fX3_68 rfl ?_
    refine JW.iload_n dX3_gardenOf_73 rfl ?_
    obtain ⟨o_3, K⟩ := K
    refine JW.mald 17 (x := (f17 x3)) dX3_gardenOf_74 (Nat.le_of_ble_eq_true rfl) rfl o_3.1 o_3.2 rfl ?_
    refine JW.iconst dX3_gardenOf_75 rfl ?_
    refine JW.icmp_ne (tgt := 82) dX3_gardenOf_76 rfl (fun c_4 => ?_) (fun c_4 => ?_)
    · have K := K.1 c_4
      refine JW.iload_n dX3_gardenOf_82 rfl ?_
      refine JW.iload_n dX3_gardenOf_83 rfl ?_
      refine JW.icmp_ne (tgt := 89) dX3_gardenOf_84 rfl (fun c_5 => ?_) (fun c_5 => ?_)
      · have K := K.1 c_5
        refine JW.iinc (ls' := [(0, vR 351), (1, vI x1), (2, vI (i32 (x2 + 1))), (3, vI x3)]) dX3_gardenOf_89 (Nat.le_of_ble_eq_true rfl) rfl rfl ?_
        refine JW.iinc (ls' := [(0, vR 351), (1, vI x1), (2, vI (i32 (x2 + 1))), (3, vI (i32 (x3 + 1)))]) dX3_gardenOf_92 (Nat.le_of_ble_eq_true rfl) rfl rfl ?_
        refine JW.goto (tgt := 59) dX3_gardenOf_95 rfl ?_
        exact JW.pick [0, 1, 2, 3] rfl K
      · have K := K.2 c_5
        refine JW.iload_n dX3_gardenOf_87 rfl ?_
        exact JW.ireturn dX3_gardenOf_88 rfl rfl ⟨_, rfl, K⟩
    · have K := K.2 c_4
      refine JW.goto (tgt := 92) dX3_gardenOf_79 rfl ?_
      refine JW.iinc (ls' := [(0, vR 351), (1, vI x1), (2, vI x2), (3, vI (i32 (x3 + 1)))]) dX3_gardenOf_92 (Nat.le_of_ble_eq_true rfl) rfl rfl ?_
      refine JW.goto (tgt := 59) dX3_gardenOf_95 rfl ?_
      exact JW.pick [0, 1, 2, 3] rfl K
def QX3_gardenOf (s : MS) (a1 : Int) : Option AV → MS → Prop := fun v s' => ∃ (f17 : Int → Int) (r : Int), v = some (vI r) ∧ s' = sA s 17 f17 ∧ (((a1 = -1 → r = many (noneTo (s.2 13) ((s.2 6) 2)) ((s.2 6) 2).toNat) ∧ (a1 ≠ -1 → isNth (noneTo (s.2 13) ((s.2 6) 2)) ((s.2 6) 2) a1 r)))
theorem vX3_gardenOf_1 (s : MS) (a1 : Int) (hp : tOK (s.2 6) ∧ rng (s.2 13) ((s.2 6) 2)) (x1 : Int) (x2 : Int) (f17 : Int → Int) (hI : x1 = a1 ∧ (0 ≤ x2 ∧ x2 ≤ s.2 6 2) ∧ ∀ z : Int, 0 ≤ z → z < x2 → f17 z = 0) (c_1 : (s.2 6 2) ≤ x2) : x1 = a1 ∧ (0 ≤ (0 : Int) ∧ (0 : Int) ≤ s.2 6 2) ∧ GM (s.2 13) f17 (s.2 6 2) (0 : Int) := by
  obtain ⟨ht, hg⟩ := hp
  have hN := tOK_N ht
  (try have hb := many_b (noneTo (s.2 13) (s.2 6 2)) x3.toNat)
  (try have hx := hg x2 (by omega) (by omega))
  (try unfold lex3)
  (try simp only [bI_0, bI_n, Classical.not_not] at *)
  (try simp (disch := omega) only [i32_id] at *)
  first | done | omega | ((repeat' (with_reducible apply And.intro)) <;> first | assumption | rfl | omega | (exact hI.1) | (exact upto_s (p := fun z v => v = 0) hI.2.2 rfl) | (exact GM_0 (fun z h0 h1 => hI.2.2 z h0 (by omega))) | (exact GM_s hI.2.2 hI.2.1.1) | (rw [← show x2 = s.2 6 2 by omega]; rw [show s.2 6 2 = x2 by omega] at hI; exact hI.2.2) | (have e9 : x2 = s.2 6 2 := by omega; rw [e9] at hI; exact hI.2.2) | (exact hI.2.2.1) | (intro z h0 h1; omega) | (intro e9; rw [hI.2.2.2.1, show x3 = s.2 6 2 by omega]) | (intro e9; exact isNth_no (by rw [show (s.2 6 2).toNat = x3.toNat by omega]; omega)) | (intro e9; omega) | (intro e9; exact isNth_y hI.2.1.1 (by omega) (GM_y hI.2.2.1 (by omega) (by omega) (by assumption)) (by omega)) | (have h9 := many_t (p := noneTo (s.2 13) (s.2 6 2)) (k := x3) (by omega) (by first | exact GM_y hI.2.2.1 (by omega) (by omega) (by assumption) | exact GM_n hI.2.2.1 (by omega) (by omega) (by assumption)); omega) | (have h9 := many_f (p := noneTo (s.2 13) (s.2 6 2)) (k := x3) (by omega) (by first | exact GM_y hI.2.2.1 (by omega) (by omega) (by assumption) | exact GM_n hI.2.2.1 (by omega) (by omega) (by assumption)); omega) | (have h9 : many (noneTo (s.2 13) (s.2 6 2)) (0 : Int).toNat = 0 := rfl; omega) | grind [upI])
theorem vX3_gardenOf_2 (s : MS) (a1 : Int) (hp : tOK (s.2 6) ∧ rng (s.2 13) ((s.2 6) 2)) (x1 : Int) (x2 : Int) (f17 : Int → Int) (hI : x1 = a1 ∧ (0 ≤ x2 ∧ x2 ≤ s.2 6 2) ∧ ∀ z : Int, 0 ≤ z → z < x2 → f17 z = 0) (c_1 : (s.2 6 2) ≤ x2) : lex3 0 1 ((s.2 6 2 - (0 : Int)).toNat) 0 2 ((s.2 6 2 - x2).toNat) := by
  obtain ⟨ht, hg⟩ := hp
  have hN := tOK_N ht
  (try have hb := many_b (noneTo (s.2 13) (s.2 6 2)) x3.toNat)
  (try have hx := hg x2 (by omega) (by omega))
  (try unfold lex3)
  (try simp only [bI_0, bI_n, Classical.not_not] at *)
  (try simp (disch := omega) only [i32_id] at *)
  first | done | omega | ((repeat' (with_reducible apply And.intro)) <;> first | assumption | rfl | omega | (exact hI.1) | (exact upto_s (p := fun z v => v = 0) hI.2.2 rfl) | (exact GM_0 (fun z h0 h1 => hI.2.2 z h0 (by omega))) | (exact GM_s hI.2.2 hI.2.1.1) | (rw [← show x2 = s.2 6 2 by omega]; rw [show s.2 6 2 = x2 by omega] at hI; exact hI.2.2) | (have e9 : x2 = s.2 6 2 := by omega; rw [e9] at hI; exact hI.2.2) | (exact hI.2.2.1) | (intro z h0 h1; omega) | (intro e9; rw [hI.2.2.2.1, show x3 = s.2 6 2 by omega]) | (intro e9; exact isNth_no (by rw [show (s.2 6 2).toNat = x3.toNat by omega]; omega)) | (intro e9; omega) | (intro e9; exact isNth_y hI.2.1.1 (by omega) (GM_y hI.2.2.1 (by omega) (by omega) (by assumption)) (by omega)) | (have h9 := many_t (p := noneTo (s.2 13) (s.2 6 2)) (k := x3) (by omega) (by first | exact GM_y hI.2.2.1 (by omega) (by omega) (by assumption) | exact GM_n hI.2.2.1 (by omega) (by omega) (by assumption)); omega) | (have h9 := many_f (p := noneTo (s.2 13) (s.2 6 2)) (k := x3) (by omega) (by first | exact GM_y hI.2.2.1 (by omega) (by omega) (by assumption) | exact GM_n hI.2.2.1 (by omega) (by omega) (by assumption)); omega) | (have h9 : many (noneTo (s.2 13) (s.2 6 2)) (0 : Int).toNat = 0 := rfl; omega) | grind [upI])
theorem vX3_gardenOf_3 (s : MS) (a1 : Int) (hp : tOK (s.2 6) ∧ rng (s.2 13) ((s.2 6) 2)) (x1 : Int) (x2 : Int) (f17 : Int → Int) (hI : x1 = a1 ∧ (0 ≤ x2 ∧ x2 ≤ s.2 6 2) ∧ ∀ z : Int, 0 ≤ z → z < x2 → f17 z = 0) (c_1 : ¬ (s.2 6 2) ≤ x2) : (0 ≤ x2 ∧ x2 < 10000) := by
  obtain ⟨ht, hg⟩ := hp
  have hN := tOK_N ht
  (try have hb := many_b (noneTo (s.2 13) (s.2 6 2)) x3.toNat)
  (try have hx := hg x2 (by omega) (by omega))
  (try unfold lex3)
  (try simp only [bI_0, bI_n, Classical.not_not] at *)
  (try simp (disch := omega) only [i32_id] at *)
  first | done | omega | ((repeat' (with_reducible apply And.intro)) <;> first | assumption | rfl | omega | (exact hI.1) | (exact upto_s (p := fun z v => v = 0) hI.2.2 rfl) | (exact GM_0 (fun z h0 h1 => hI.2.2 z h0 (by omega))) | (exact GM_s hI.2.2 hI.2.1.1) | (rw [← show x2 = s.2 6 2 by omega]; rw [show s.2 6 2 = x2 by omega] at hI; exact hI.2.2) | (have e9 : x2 = s.2 6 2 := by omega; rw [e9] at hI; exact hI.2.2) | (exact hI.2.2.1) | (intro z h0 h1; omega) | (intro e9; rw [hI.2.2.2.1, show x3 = s.2 6 2 by omega]) | (intro e9; exact isNth_no (by rw [show (s.2 6 2).toNat = x3.toNat by omega]; omega)) | (intro e9; omega) | (intro e9; exact isNth_y hI.2.1.1 (by omega) (GM_y hI.2.2.1 (by omega) (by omega) (by assumption)) (by omega)) | (have h9 := many_t (p := noneTo (s.2 13) (s.2 6 2)) (k := x3) (by omega) (by first | exact GM_y hI.2.2.1 (by omega) (by omega) (by assumption) | exact GM_n hI.2.2.1 (by omega) (by omega) (by assumption)); omega) | (have h9 := many_f (p := noneTo (s.2 13) (s.2 6 2)) (k := x3) (by omega) (by first | exact GM_y hI.2.2.1 (by omega) (by omega) (by assumption) | exact GM_n hI.2.2.1 (by omega) (by omega) (by assumption)); omega) | (have h9 : many (noneTo (s.2 13) (s.2 6 2)) (0 : Int).toNat = 0 := rfl; omega) | grind [upI])
theorem vX3_gardenOf_4 (s : MS) (a1 : Int) (hp : tOK (s.2 6) ∧ rng (s.2 13) ((s.2 6) 2)) (x1 : Int) (x2 : Int) (f17 : Int → Int) (hI : x1 = a1 ∧ (0 ≤ x2 ∧ x2 ≤ s.2 6 2) ∧ ∀ z : Int, 0 ≤ z → z < x2 → f17 z = 0) (c_1 : ¬ (s.2 6 2) ≤ x2) (o_2 : (0 ≤ x2 ∧ x2 < 10000)) : x1 = a1 ∧ (0 ≤ (i32 (x2 + 1)) ∧ (i32 (x2 + 1)) ≤ s.2 6 2) ∧ ∀ z : Int, 0 ≤ z → z < (i32 (x2 + 1)) → (upI f17 x2 0) z = 0 := by
  obtain ⟨ht, hg⟩ := hp
  have hN := tOK_N ht
  (try have hb := many_b (noneTo (s.2 13) (s.2 6 2)) x3.toNat)
  (try have hx := hg x2 (by omega) (by omega))
  (try unfold lex3)
  (try simp only [bI_0, bI_n, Classical.not_not] at *)
  (try simp (disch := omega) only [i32_id] at *)
  first | done | omega | ((repeat' (with_reducible apply And.intro)) <;> first | assumption | rfl | omega | (exact hI.1) | (exact upto_s (p := fun z v => v = 0) hI.2.2 rfl) | (exact GM_0 (fun z h0 h1 => hI.2.2 z h0 (by omega))) | (exact GM_s hI.2.2 hI.2.1.1) | (rw [← show x2 = s.2 6 2 by omega]; rw [show s.2 6 2 = x2 by omega] at hI; exact hI.2.2) | (have e9 : x2 = s.2 6 2 := by omega; rw [e9] at hI; exact hI.2.2) | (exact hI.2.2.1) | (intro z h0 h1; omega) | (intro e9; rw [hI.2.2.2.1, show x3 = s.2 6 2 by omega]) | (intro e9; exact isNth_no (by rw [show (s.2 6 2).toNat = x3.toNat by omega]; omega)) | (intro e9; omega) | (intro e9; exact isNth_y hI.2.1.1 (by omega) (GM_y hI.2.2.1 (by omega) (by omega) (by assumption)) (by omega)) | (have h9 := many_t (p := noneTo (s.2 13) (s.2 6 2)) (k := x3) (by omega) (by first | exact GM_y hI.2.2.1 (by omega) (by omega) (by assumption) | exact GM_n hI.2.2.1 (by omega) (by omega) (by assumption)); omega) | (have h9 := many_f (p := noneTo (s.2 13) (s.2 6 2)) (k := x3) (by omega) (by first | exact GM_y hI.2.2.1 (by omega) (by omega) (by assumption) | exact GM_n hI.2.2.1 (by omega) (by omega) (by assumption)); omega) | (have h9 : many (noneTo (s.2 13) (s.2 6 2)) (0 : Int).toNat = 0 := rfl; omega) | grind [upI])
theorem vX3_gardenOf_5 (s : MS) (a1 : Int) (hp : tOK (s.2 6) ∧ rng (s.2 13) ((s.2 6) 2)) (x1 : Int) (x2 : Int) (f17 : Int → Int) (hI : x1 = a1 ∧ (0 ≤ x2 ∧ x2 ≤ s.2 6 2) ∧ ∀ z : Int, 0 ≤ z → z < x2 → f17 z = 0) (c_1 : ¬ (s.2 6 2) ≤ x2) (o_2 : (0 ≤ x2 ∧ x2 < 10000)) : lex3 0 2 ((s.2 6 2 - (i32 (x2 + 1))).toNat) 0 2 ((s.2 6 2 - x2).toNat) := by
  obtain ⟨ht, hg⟩ := hp
  have hN := tOK_N ht
  (try have hb := many_b (noneTo (s.2 13) (s.2 6 2)) x3.toNat)
  (try have hx := hg x2 (by omega) (by omega))
  (try unfold lex3)
  (try simp only [bI_0, bI_n, Classical.not_not] at *)
  (try simp (disch := omega) only [i32_id] at *)
  first | done | omega | ((repeat' (with_reducible apply And.intro)) <;> first | assumption | rfl | omega | (exact hI.1) | (exact upto_s (p := fun z v => v = 0) hI.2.2 rfl) | (exact GM_0 (fun z h0 h1 => hI.2.2 z h0 (by omega))) | (exact GM_s hI.2.2 hI.2.1.1) | (rw [← show x2 = s.2 6 2 by omega]; rw [show s.2 6 2 = x2 by omega] at hI; exact hI.2.2) | (have e9 : x2 = s.2 6 2 := by omega; rw [e9] at hI; exact hI.2.2) | (exact hI.2.2.1) | (intro z h0 h1; omega) | (intro e9; rw [hI.2.2.2.1, show x3 = s.2 6 2 by omega]) | (intro e9; exact isNth_no (by rw [show (s.2 6 2).toNat = x3.toNat by omega]; omega)) | (intro e9; omega) | (intro e9; exact isNth_y hI.2.1.1 (by omega) (GM_y hI.2.2.1 (by omega) (by omega) (by assumption)) (by omega)) | (have h9 := many_t (p := noneTo (s.2 13) (s.2 6 2)) (k := x3) (by omega) (by first | exact GM_y hI.2.2.1 (by omega) (by omega) (by assumption) | exact GM_n hI.2.2.1 (by omega) (by omega) (by assumption)); omega) | (have h9 := many_f (p := noneTo (s.2 13) (s.2 6 2)) (k := x3) (by omega) (by first | exact GM_y hI.2.2.1 (by omega) (by omega) (by assumption) | exact GM_n hI.2.2.1 (by omega) (by omega) (by assumption)); omega) | (have h9 : many (noneTo (s.2 13) (s.2 6 2)) (0 : Int).toNat = 0 := rfl; omega) | grind [upI])
theorem vX3_gardenOf_6 (s : MS) (a1 : Int) (hp : tOK (s.2 6) ∧ rng (s.2 13) ((s.2 6) 2)) (x1 : Int) (x2 : Int) (f17 : Int → Int) (hI : x1 = a1 ∧ (0 ≤ x2 ∧ x2 ≤ s.2 6 2) ∧ GM (s.2 13) f17 (s.2 6 2) x2) (c_1 : (s.2 6 2) ≤ x2) : x1 = a1 ∧ (0 ≤ (0 : Int) ∧ (0 : Int) ≤ s.2 6 2) ∧ GM (s.2 13) f17 (s.2 6 2) (s.2 6 2) ∧ (0 : Int) = many (noneTo (s.2 13) (s.2 6 2)) (0 : Int).toNat ∧ (0 ≤ a1 → (0 : Int) ≤ a1) := by
  obtain ⟨ht, hg⟩ := hp
  have hN := tOK_N ht
  (try have hb := many_b (noneTo (s.2 13) (s.2 6 2)) x3.toNat)
  (try have hx := hg x2 (by omega) (by omega))
  (try unfold lex3)
  (try simp only [bI_0, bI_n, Classical.not_not] at *)
  (try simp (disch := omega) only [i32_id] at *)
  first | done | omega | ((repeat' (with_reducible apply And.intro)) <;> first | assumption | rfl | omega | (exact hI.1) | (exact upto_s (p := fun z v => v = 0) hI.2.2 rfl) | (exact GM_0 (fun z h0 h1 => hI.2.2 z h0 (by omega))) | (exact GM_s hI.2.2 hI.2.1.1) | (rw [← show x2 = s.2 6 2 by omega]; rw [show s.2 6 2 = x2 by omega] at hI; exact hI.2.2) | (have e9 : x2 = s.2 6 2 := by omega; rw [e9] at hI; exact hI.2.2) | (exact hI.2.2.1) | (intro z h0 h1; omega) | (intro e9; rw [hI.2.2.2.1, show x3 = s.2 6 2 by omega]) | (intro e9; exact isNth_no (by rw [show (s.2 6 2).toNat = x3.toNat by omega]; omega)) | (intro e9; omega) | (intro e9; exact isNth_y hI.2.1.1 (by omega) (GM_y hI.2.2.1 (by omega) (by omega) (by assumption)) (by omega)) | (have h9 := many_t (p := noneTo (s.2 13) (s.2 6 2)) (k := x3) (by omega) (by first | exact GM_y hI.2.2.1 (by omega) (by omega) (by assumption) | exact GM_n hI.2.2.1 (by omega) (by omega) (by assumption)); omega) | (have h9 := many_f (p := noneTo (s.2 13) (s.2 6 2)) (k := x3) (by omega) (by first | exact GM_y hI.2.2.1 (by omega) (by omega) (by assumption) | exact GM_n hI.2.2.1 (by omega) (by omega) (by assumption)); omega) | (have h9 : many (noneTo (s.2 13) (s.2 6 2)) (0 : Int).toNat = 0 := rfl; omega) | grind [upI])
theorem vX3_gardenOf_7 (s : MS) (a1 : Int) (hp : tOK (s.2 6) ∧ rng (s.2 13) ((s.2 6) 2)) (x1 : Int) (x2 : Int) (f17 : Int → Int) (hI : x1 = a1 ∧ (0 ≤ x2 ∧ x2 ≤ s.2 6 2) ∧ GM (s.2 13) f17 (s.2 6 2) x2) (c_1 : (s.2 6 2) ≤ x2) : lex3 0 0 ((s.2 6 2 - (0 : Int)).toNat) 0 1 ((s.2 6 2 - x2).toNat) := by
  obtain ⟨ht, hg⟩ := hp
  have hN := tOK_N ht
  (try have hb := many_b (noneTo (s.2 13) (s.2 6 2)) x3.toNat)
  (try have hx := hg x2 (by omega) (by omega))
  (try unfold lex3)
  (try simp only [bI_0, bI_n, Classical.not_not] at *)
  (try simp (disch := omega) only [i32_id] at *)
  first | done | omega | ((repeat' (with_reducible apply And.intro)) <;> first | assumption | rfl | omega | (exact hI.1) | (exact upto_s (p := fun z v => v = 0) hI.2.2 rfl) | (exact GM_0 (fun z h0 h1 => hI.2.2 z h0 (by omega))) | (exact GM_s hI.2.2 hI.2.1.1) | (rw [← show x2 = s.2 6 2 by omega]; rw [show s.2 6 2 = x2 by omega] at hI; exact hI.2.2) | (have e9 : x2 = s.2 6 2 := by omega; rw [e9] at hI; exact hI.2.2) | (exact hI.2.2.1) | (intro z h0 h1; omega) | (intro e9; rw [hI.2.2.2.1, show x3 = s.2 6 2 by omega]) | (intro e9; exact isNth_no (by rw [show (s.2 6 2).toNat = x3.toNat by omega]; omega)) | (intro e9; omega) | (intro e9; exact isNth_y hI.2.1.1 (by omega) (GM_y hI.2.2.1 (by omega) (by omega) (by assumption)) (by omega)) | (have h9 := many_t (p := noneTo (s.2 13) (s.2 6 2)) (k := x3) (by omega) (by first | exact GM_y hI.2.2.1 (by omega) (by omega) (by assumption) | exact GM_n hI.2.2.1 (by omega) (by omega) (by assumption)); omega) | (have h9 := many_f (p := noneTo (s.2 13) (s.2 6 2)) (k := x3) (by omega) (by first | exact GM_y hI.2.2.1 (by omega) (by omega) (by assumption) | exact GM_n hI.2.2.1 (by omega) (by omega) (by assumption)); omega) | (have h9 : many (noneTo (s.2 13) (s.2 6 2)) (0 : Int).toNat = 0 := rfl; omega) | grind [upI])
theorem vX3_gardenOf_8 (s : MS) (a1 : Int) (hp : tOK (s.2 6) ∧ rng (s.2 13) ((s.2 6) 2)) (x1 : Int) (x2 : Int) (f17 : Int → Int) (hI : x1 = a1 ∧ (0 ≤ x2 ∧ x2 ≤ s.2 6 2) ∧ GM (s.2 13) f17 (s.2 6 2) x2) (c_1 : ¬ (s.2 6 2) ≤ x2) : (0 ≤ x2 ∧ x2 < 10000) := by
  obtain ⟨ht, hg⟩ := hp
  have hN := tOK_N ht
  (try have hb := many_b (noneTo (s.2 13) (s.2 6 2)) x3.toNat)
  (try have hx := hg x2 (by omega) (by omega))
  (try unfold lex3)
  (try simp only [bI_0, bI_n, Classical.not_not] at *)
  (try simp (disch := omega) only [i32_id] at *)
  first | done | omega | ((repeat' (with_reducible apply And.intro)) <;> first | assumption | rfl | omega | (exact hI.1) | (exact upto_s (p := fun z v => v = 0) hI.2.2 rfl) | (exact GM_0 (fun z h0 h1 => hI.2.2 z h0 (by omega))) | (exact GM_s hI.2.2 hI.2.1.1) | (rw [← show x2 = s.2 6 2 by omega]; rw [show s.2 6 2 = x2 by omega] at hI; exact hI.2.2) | (have e9 : x2 = s.2 6 2 := by omega; rw [e9] at hI; exact hI.2.2) | (exact hI.2.2.1) | (intro z h0 h1; omega) | (intro e9; rw [hI.2.2.2.1, show x3 = s.2 6 2 by omega]) | (intro e9; exact isNth_no (by rw [show (s.2 6 2).toNat = x3.toNat by omega]; omega)) | (intro e9; omega) | (intro e9; exact isNth_y hI.2.1.1 (by omega) (GM_y hI.2.2.1 (by omega) (by omega) (by assumption)) (by omega)) | (have h9 := many_t (p := noneTo (s.2 13) (s.2 6 2)) (k := x3) (by omega) (by first | exact GM_y hI.2.2.1 (by omega) (by omega) (by assumption) | exact GM_n hI.2.2.1 (by omega) (by omega) (by assumption)); omega) | (have h9 := many_f (p := noneTo (s.2 13) (s.2 6 2)) (k := x3) (by omega) (by first | exact GM_y hI.2.2.1 (by omega) (by omega) (by assumption) | exact GM_n hI.2.2.1 (by omega) (by omega) (by assumption)); omega) | (have h9 : many (noneTo (s.2 13) (s.2 6 2)) (0 : Int).toNat = 0 := rfl; omega) | grind [upI])
theorem vX3_gardenOf_9 (s : MS) (a1 : Int) (hp : tOK (s.2 6) ∧ rng (s.2 13) ((s.2 6) 2)) (x1 : Int) (x2 : Int) (f17 : Int → Int) (hI : x1 = a1 ∧ (0 ≤ x2 ∧ x2 ≤ s.2 6 2) ∧ GM (s.2 13) f17 (s.2 6 2) x2) (c_1 : ¬ (s.2 6 2) ≤ x2) (o_2 : (0 ≤ x2 ∧ x2 < 10000)) : (0 ≤ (s.2 13 x2) ∧ (s.2 13 x2) < 10000) := by
  obtain ⟨ht, hg⟩ := hp
  have hN := tOK_N ht
  (try have hb := many_b (noneTo (s.2 13) (s.2 6 2)) x3.toNat)
  (try have hx := hg x2 (by omega) (by omega))
  (try unfold lex3)
  (try simp only [bI_0, bI_n, Classical.not_not] at *)
  (try simp (disch := omega) only [i32_id] at *)
  first | done | omega | ((repeat' (with_reducible apply And.intro)) <;> first | assumption | rfl | omega | (exact hI.1) | (exact upto_s (p := fun z v => v = 0) hI.2.2 rfl) | (exact GM_0 (fun z h0 h1 => hI.2.2 z h0 (by omega))) | (exact GM_s hI.2.2 hI.2.1.1) | (rw [← show x2 = s.2 6 2 by omega]; rw [show s.2 6 2 = x2 by omega] at hI; exact hI.2.2) | (have e9 : x2 = s.2 6 2 := by omega; rw [e9] at hI; exact hI.2.2) | (exact hI.2.2.1) | (intro z h0 h1; omega) | (intro e9; rw [hI.2.2.2.1, show x3 = s.2 6 2 by omega]) | (intro e9; exact isNth_no (by rw [show (s.2 6 2).toNat = x3.toNat by omega]; omega)) | (intro e9; omega) | (intro e9; exact isNth_y hI.2.1.1 (by omega) (GM_y hI.2.2.1 (by omega) (by omega) (by assumption)) (by omega)) | (have h9 := many_t (p := noneTo (s.2 13) (s.2 6 2)) (k := x3) (by omega) (by first | exact GM_y hI.2.2.1 (by omega) (by omega) (by assumption) | exact GM_n hI.2.2.1 (by omega) (by omega) (by assumption)); omega) | (have h9 := many_f (p := noneTo (s.2 13) (s.2 6 2)) (k := x3) (by omega) (by first | exact GM_y hI.2.2.1 (by omega) (by omega) (by assumption) | exact GM_n hI.2.2.1 (by omega) (by omega) (by assumption)); omega) | (have h9 : many (noneTo (s.2 13) (s.2 6 2)) (0 : Int).toNat = 0 := rfl; omega) | grind [upI])
theorem vX3_gardenOf_10 (s : MS) (a1 : Int) (hp : tOK (s.2 6) ∧ rng (s.2 13) ((s.2 6) 2)) (x1 : Int) (x2 : Int) (f17 : Int → Int) (hI : x1 = a1 ∧ (0 ≤ x2 ∧ x2 ≤ s.2 6 2) ∧ GM (s.2 13) f17 (s.2 6 2) x2) (c_1 : ¬ (s.2 6 2) ≤ x2) (o_2 : (0 ≤ x2 ∧ x2 < 10000)) (o_3 : (0 ≤ (s.2 13 x2) ∧ (s.2 13 x2) < 10000)) : x1 = a1 ∧ (0 ≤ (i32 (x2 + 1)) ∧ (i32 (x2 + 1)) ≤ s.2 6 2) ∧ GM (s.2 13) (upI f17 (s.2 13 x2) 1) (s.2 6 2) (i32 (x2 + 1)) := by
  obtain ⟨ht, hg⟩ := hp
  have hN := tOK_N ht
  (try have hb := many_b (noneTo (s.2 13) (s.2 6 2)) x3.toNat)
  (try have hx := hg x2 (by omega) (by omega))
  (try unfold lex3)
  (try simp only [bI_0, bI_n, Classical.not_not] at *)
  (try simp (disch := omega) only [i32_id] at *)
  first | done | omega | ((repeat' (with_reducible apply And.intro)) <;> first | assumption | rfl | omega | (exact hI.1) | (exact upto_s (p := fun z v => v = 0) hI.2.2 rfl) | (exact GM_0 (fun z h0 h1 => hI.2.2 z h0 (by omega))) | (exact GM_s hI.2.2 hI.2.1.1) | (rw [← show x2 = s.2 6 2 by omega]; rw [show s.2 6 2 = x2 by omega] at hI; exact hI.2.2) | (have e9 : x2 = s.2 6 2 := by omega; rw [e9] at hI; exact hI.2.2) | (exact hI.2.2.1) | (intro z h0 h1; omega) | (intro e9; rw [hI.2.2.2.1, show x3 = s.2 6 2 by omega]) | (intro e9; exact isNth_no (by rw [show (s.2 6 2).toNat = x3.toNat by omega]; omega)) | (intro e9; omega) | (intro e9; exact isNth_y hI.2.1.1 (by omega) (GM_y hI.2.2.1 (by omega) (by omega) (by assumption)) (by omega)) | (have h9 := many_t (p := noneTo (s.2 13) (s.2 6 2)) (k := x3) (by omega) (by first | exact GM_y hI.2.2.1 (by omega) (by omega) (by assumption) | exact GM_n hI.2.2.1 (by omega) (by omega) (by assumption)); omega) | (have h9 := many_f (p := noneTo (s.2 13) (s.2 6 2)) (k := x3) (by omega) (by first | exact GM_y hI.2.2.1 (by omega) (by omega) (by assumption) | exact GM_n hI.2.2.1 (by omega) (by omega) (by assumption)); omega) | (have h9 : many (noneTo (s.2 13) (s.2 6 2)) (0 : Int).toNat = 0 := rfl; omega) | grind [upI])
theorem vX3_gardenOf_11 (s : MS) (a1 : Int) (hp : tOK (s.2 6) ∧ rng (s.2 13) ((s.2 6) 2)) (x1 : Int) (x2 : Int) (f17 : Int → Int) (hI : x1 = a1 ∧ (0 ≤ x2 ∧ x2 ≤ s.2 6 2) ∧ GM (s.2 13) f17 (s.2 6 2) x2) (c_1 : ¬ (s.2 6 2) ≤ x2) (o_2 : (0 ≤ x2 ∧ x2 < 10000)) (o_3 : (0 ≤ (s.2 13 x2) ∧ (s.2 13 x2) < 10000)) : lex3 0 1 ((s.2 6 2 - (i32 (x2 + 1))).toNat) 0 1 ((s.2 6 2 - x2).toNat) := by
  obtain ⟨ht, hg⟩ := hp
  have hN := tOK_N ht
  (try have hb := many_b (noneTo (s.2 13) (s.2 6 2)) x3.toNat)
  (try have hx := hg x2 (by omega) (by omega))
  (try unfold lex3)
  (try simp only [bI_0, bI_n, Classical.not_not] at *)
  (try simp (disch := omega) only [i32_id] at *)
  first | done | omega | ((repeat' (with_reducible apply And.intro)) <;> first | assumption | rfl | omega | (exact hI.1) | (exact upto_s (p := fun z v => v = 0) hI.2.2 rfl) | (exact GM_0 (fun z h0 h1 => hI.2.2 z h0 (by omega))) | (exact GM_s hI.2.2 hI.2.1.1) | (rw [← show x2 = s.2 6 2 by omega]; rw [show s.2 6 2 = x2 by omega] at hI; exact hI.2.2) | (have e9 : x2 = s.2 6 2 := by omega; rw [e9] at hI; exact hI.2.2) | (exact hI.2.2.1) | (intro z h0 h1; omega) | (intro e9; rw [hI.2.2.2.1, show x3 = s.2 6 2 by omega]) | (intro e9; exact isNth_no (by rw [show (s.2 6 2).toNat = x3.toNat by omega]; omega)) | (intro e9; omega) | (intro e9; exact isNth_y hI.2.1.1 (by omega) (GM_y hI.2.2.1 (by omega) (by omega) (by assumption)) (by omega)) | (have h9 := many_t (p := noneTo (s.2 13) (s.2 6 2)) (k := x3) (by omega) (by first | exact GM_y hI.2.2.1 (by omega) (by omega) (by assumption) | exact GM_n hI.2.2.1 (by omega) (by omega) (by assumption)); omega) | (have h9 := many_f (p := noneTo (s.2 13) (s.2 6 2)) (k := x3) (by omega) (by first | exact GM_y hI.2.2.1 (by omega) (by omega) (by assumption) | exact GM_n hI.2.2.1 (by omega) (by omega) (by assumption)); omega) | (have h9 : many (noneTo (s.2 13) (s.2 6 2)) (0 : Int).toNat = 0 := rfl; omega) | grind [upI])
theorem vX3_gardenOf_12 (s : MS) (a1 : Int) (hp : tOK (s.2 6) ∧ rng (s.2 13) ((s.2 6) 2)) (x1 : Int) (x2 : Int) (x3 : Int) (f17 : Int → Int) (hI : x1 = a1 ∧ (0 ≤ x3 ∧ x3 ≤ s.2 6 2) ∧ GM (s.2 13) f17 (s.2 6 2) (s.2 6 2) ∧ x2 = many (noneTo (s.2 13) (s.2 6 2)) x3.toNat ∧ (0 ≤ a1 → x2 ≤ a1)) (c_1 : (s.2 6 2) ≤ x3) (c_2 : ¬ x1 = (-1)) : ((a1 = -1 → (-1) = many (noneTo (s.2 13) ((s.2 6) 2)) ((s.2 6) 2).toNat) ∧ (a1 ≠ -1 → isNth (noneTo (s.2 13) ((s.2 6) 2)) ((s.2 6) 2) a1 (-1))) := by
  obtain ⟨ht, hg⟩ := hp
  have hN := tOK_N ht
  (try have hb := many_b (noneTo (s.2 13) (s.2 6 2)) x3.toNat)
  (try have hx := hg x2 (by omega) (by omega))
  (try unfold lex3)
  (try simp only [bI_0, bI_n, Classical.not_not] at *)
  (try simp (disch := omega) only [i32_id] at *)
  first | done | omega | ((repeat' (with_reducible apply And.intro)) <;> first | assumption | rfl | omega | (exact hI.1) | (exact upto_s (p := fun z v => v = 0) hI.2.2 rfl) | (exact GM_0 (fun z h0 h1 => hI.2.2 z h0 (by omega))) | (exact GM_s hI.2.2 hI.2.1.1) | (rw [← show x2 = s.2 6 2 by omega]; rw [show s.2 6 2 = x2 by omega] at hI; exact hI.2.2) | (have e9 : x2 = s.2 6 2 := by omega; rw [e9] at hI; exact hI.2.2) | (exact hI.2.2.1) | (intro z h0 h1; omega) | (intro e9; rw [hI.2.2.2.1, show x3 = s.2 6 2 by omega]) | (intro e9; exact isNth_no (by rw [show (s.2 6 2).toNat = x3.toNat by omega]; omega)) | (intro e9; omega) | (intro e9; exact isNth_y hI.2.1.1 (by omega) (GM_y hI.2.2.1 (by omega) (by omega) (by assumption)) (by omega)) | (have h9 := many_t (p := noneTo (s.2 13) (s.2 6 2)) (k := x3) (by omega) (by first | exact GM_y hI.2.2.1 (by omega) (by omega) (by assumption) | exact GM_n hI.2.2.1 (by omega) (by omega) (by assumption)); omega) | (have h9 := many_f (p := noneTo (s.2 13) (s.2 6 2)) (k := x3) (by omega) (by first | exact GM_y hI.2.2.1 (by omega) (by omega) (by assumption) | exact GM_n hI.2.2.1 (by omega) (by omega) (by assumption)); omega) | (have h9 : many (noneTo (s.2 13) (s.2 6 2)) (0 : Int).toNat = 0 := rfl; omega) | grind [upI])
theorem vX3_gardenOf_13 (s : MS) (a1 : Int) (hp : tOK (s.2 6) ∧ rng (s.2 13) ((s.2 6) 2)) (x1 : Int) (x2 : Int) (x3 : Int) (f17 : Int → Int) (hI : x1 = a1 ∧ (0 ≤ x3 ∧ x3 ≤ s.2 6 2) ∧ GM (s.2 13) f17 (s.2 6 2) (s.2 6 2) ∧ x2 = many (noneTo (s.2 13) (s.2 6 2)) x3.toNat ∧ (0 ≤ a1 → x2 ≤ a1)) (c_1 : (s.2 6 2) ≤ x3) (c_2 : x1 = (-1)) : ((a1 = -1 → x2 = many (noneTo (s.2 13) ((s.2 6) 2)) ((s.2 6) 2).toNat) ∧ (a1 ≠ -1 → isNth (noneTo (s.2 13) ((s.2 6) 2)) ((s.2 6) 2) a1 x2)) := by
  obtain ⟨ht, hg⟩ := hp
  have hN := tOK_N ht
  (try have hb := many_b (noneTo (s.2 13) (s.2 6 2)) x3.toNat)
  (try have hx := hg x2 (by omega) (by omega))
  (try unfold lex3)
  (try simp only [bI_0, bI_n, Classical.not_not] at *)
  (try simp (disch := omega) only [i32_id] at *)
  first | done | omega | ((repeat' (with_reducible apply And.intro)) <;> first | assumption | rfl | omega | (exact hI.1) | (exact upto_s (p := fun z v => v = 0) hI.2.2 rfl) | (exact GM_0 (fun z h0 h1 => hI.2.2 z h0 (by omega))) | (exact GM_s hI.2.2 hI.2.1.1) | (rw [← show x2 = s.2 6 2 by omega]; rw [show s.2 6 2 = x2 by omega] at hI; exact hI.2.2) | (have e9 : x2 = s.2 6 2 := by omega; rw [e9] at hI; exact hI.2.2) | (exact hI.2.2.1) | (intro z h0 h1; omega) | (intro e9; rw [hI.2.2.2.1, show x3 = s.2 6 2 by omega]) | (intro e9; exact isNth_no (by rw [show (s.2 6 2).toNat = x3.toNat by omega]; omega)) | (intro e9; omega) | (intro e9; exact isNth_y hI.2.1.1 (by omega) (GM_y hI.2.2.1 (by omega) (by omega) (by assumption)) (by omega)) | (have h9 := many_t (p := noneTo (s.2 13) (s.2 6 2)) (k := x3) (by omega) (by first | exact GM_y hI.2.2.1 (by omega) (by omega) (by assumption) | exact GM_n hI.2.2.1 (by omega) (by omega) (by assumption)); omega) | (have h9 := many_f (p := noneTo (s.2 13) (s.2 6 2)) (k := x3) (by omega) (by first | exact GM_y hI.2.2.1 (by omega) (by omega) (by assumption) | exact GM_n hI.2.2.1 (by omega) (by omega) (by assumption)); omega) | (have h9 : many (noneTo (s.2 13) (s.2 6 2)) (0 : Int).toNat = 0 := rfl; omega) | grind [upI])
theorem vX3_gardenOf_14 (s : MS) (a1 : Int) (hp : tOK (s.2 6) ∧ rng (s.2 13) ((s.2 6) 2)) (x1 : Int) (x2 : Int) (x3 : Int) (f17 : Int → Int) (hI : x1 = a1 ∧ (0 ≤ x3 ∧ x3 ≤ s.2 6 2) ∧ GM (s.2 13) f17 (s.2 6 2) (s.2 6 2) ∧ x2 = many (noneTo (s.2 13) (s.2 6 2)) x3.toNat ∧ (0 ≤ a1 → x2 ≤ a1)) (c_1 : ¬ (s.2 6 2) ≤ x3) : (0 ≤ x3 ∧ x3 < 10000) := by
  obtain ⟨ht, hg⟩ := hp
  have hN := tOK_N ht
  (try have hb := many_b (noneTo (s.2 13) (s.2 6 2)) x3.toNat)
  (try have hx := hg x2 (by omega) (by omega))
  (try unfold lex3)
  (try simp only [bI_0, bI_n, Classical.not_not] at *)
  (try simp (disch := omega) only [i32_id] at *)
  first | done | omega | ((repeat' (with_reducible apply And.intro)) <;> first | assumption | rfl | omega | (exact hI.1) | (exact upto_s (p := fun z v => v = 0) hI.2.2 rfl) | (exact GM_0 (fun z h0 h1 => hI.2.2 z h0 (by omega))) | (exact GM_s hI.2.2 hI.2.1.1) | (rw [← show x2 = s.2 6 2 by omega]; rw [show s.2 6 2 = x2 by omega] at hI; exact hI.2.2) | (have e9 : x2 = s.2 6 2 := by omega; rw [e9] at hI; exact hI.2.2) | (exact hI.2.2.1) | (intro z h0 h1; omega) | (intro e9; rw [hI.2.2.2.1, show x3 = s.2 6 2 by omega]) | (intro e9; exact isNth_no (by rw [show (s.2 6 2).toNat = x3.toNat by omega]; omega)) | (intro e9; omega) | (intro e9; exact isNth_y hI.2.1.1 (by omega) (GM_y hI.2.2.1 (by omega) (by omega) (by assumption)) (by omega)) | (have h9 := many_t (p := noneTo (s.2 13) (s.2 6 2)) (k := x3) (by omega) (by first | exact GM_y hI.2.2.1 (by omega) (by omega) (by assumption) | exact GM_n hI.2.2.1 (by omega) (by omega) (by assumption)); omega) | (have h9 := many_f (p := noneTo (s.2 13) (s.2 6 2)) (k := x3) (by omega) (by first | exact GM_y hI.2.2.1 (by omega) (by omega) (by assumption) | exact GM_n hI.2.2.1 (by omega) (by omega) (by assumption)); omega) | (have h9 : many (noneTo (s.2 13) (s.2 6 2)) (0 : Int).toNat = 0 := rfl; omega) | grind [upI])
theorem vX3_gardenOf_15 (s : MS) (a1 : Int) (hp : tOK (s.2 6) ∧ rng (s.2 13) ((s.2 6) 2)) (x1 : Int) (x2 : Int) (x3 : Int) (f17 : Int → Int) (hI : x1 = a1 ∧ (0 ≤ x3 ∧ x3 ≤ s.2 6 2) ∧ GM (s.2 13) f17 (s.2 6 2) (s.2 6 2) ∧ x2 = many (noneTo (s.2 13) (s.2 6 2)) x3.toNat ∧ (0 ≤ a1 → x2 ≤ a1)) (c_1 : ¬ (s.2 6 2) ≤ x3) (o_3 : (0 ≤ x3 ∧ x3 < 10000)) (c_4 : ¬ (f17 x3) = 1) (c_5 : ¬ x2 = x1) : x1 = a1 ∧ (0 ≤ (i32 (x3 + 1)) ∧ (i32 (x3 + 1)) ≤ s.2 6 2) ∧ GM (s.2 13) f17 (s.2 6 2) (s.2 6 2) ∧ (i32 (x2 + 1)) = many (noneTo (s.2 13) (s.2 6 2)) (i32 (x3 + 1)).toNat ∧ (0 ≤ a1 → (i32 (x2 + 1)) ≤ a1) := by
  obtain ⟨ht, hg⟩ := hp
  have hN := tOK_N ht
  (try have hb := many_b (noneTo (s.2 13) (s.2 6 2)) x3.toNat)
  (try have hx := hg x2 (by omega) (by omega))
  (try unfold lex3)
  (try simp only [bI_0, bI_n, Classical.not_not] at *)
  (try simp (disch := omega) only [i32_id] at *)
  first | done | omega | ((repeat' (with_reducible apply And.intro)) <;> first | assumption | rfl | omega | (exact hI.1) | (exact upto_s (p := fun z v => v = 0) hI.2.2 rfl) | (exact GM_0 (fun z h0 h1 => hI.2.2 z h0 (by omega))) | (exact GM_s hI.2.2 hI.2.1.1) | (rw [← show x2 = s.2 6 2 by omega]; rw [show s.2 6 2 = x2 by omega] at hI; exact hI.2.2) | (have e9 : x2 = s.2 6 2 := by omega; rw [e9] at hI; exact hI.2.2) | (exact hI.2.2.1) | (intro z h0 h1; omega) | (intro e9; rw [hI.2.2.2.1, show x3 = s.2 6 2 by omega]) | (intro e9; exact isNth_no (by rw [show (s.2 6 2).toNat = x3.toNat by omega]; omega)) | (intro e9; omega) | (intro e9; exact isNth_y hI.2.1.1 (by omega) (GM_y hI.2.2.1 (by omega) (by omega) (by assumption)) (by omega)) | (have h9 := many_t (p := noneTo (s.2 13) (s.2 6 2)) (k := x3) (by omega) (by first | exact GM_y hI.2.2.1 (by omega) (by omega) (by assumption) | exact GM_n hI.2.2.1 (by omega) (by omega) (by assumption)); omega) | (have h9 := many_f (p := noneTo (s.2 13) (s.2 6 2)) (k := x3) (by omega) (by first | exact GM_y hI.2.2.1 (by omega) (by omega) (by assumption) | exact GM_n hI.2.2.1 (by omega) (by omega) (by assumption)); omega) | (have h9 : many (noneTo (s.2 13) (s.2 6 2)) (0 : Int).toNat = 0 := rfl; omega) | grind [upI])
theorem vX3_gardenOf_16 (s : MS) (a1 : Int) (hp : tOK (s.2 6) ∧ rng (s.2 13) ((s.2 6) 2)) (x1 : Int) (x2 : Int) (x3 : Int) (f17 : Int → Int) (hI : x1 = a1 ∧ (0 ≤ x3 ∧ x3 ≤ s.2 6 2) ∧ GM (s.2 13) f17 (s.2 6 2) (s.2 6 2) ∧ x2 = many (noneTo (s.2 13) (s.2 6 2)) x3.toNat ∧ (0 ≤ a1 → x2 ≤ a1)) (c_1 : ¬ (s.2 6 2) ≤ x3) (o_3 : (0 ≤ x3 ∧ x3 < 10000)) (c_4 : ¬ (f17 x3) = 1) (c_5 : ¬ x2 = x1) : lex3 0 0 ((s.2 6 2 - (i32 (x3 + 1))).toNat) 0 0 ((s.2 6 2 - x3).toNat) := by
  obtain ⟨ht, hg⟩ := hp
  have hN := tOK_N ht
  (try have hb := many_b (noneTo (s.2 13) (s.2 6 2)) x3.toNat)
  (try have hx := hg x2 (by omega) (by omega))
  (try unfold lex3)
  (try simp only [bI_0, bI_n, Classical.not_not] at *)
  (try simp (disch := omega) only [i32_id] at *)
  first | done | omega | ((repeat' (with_reducible apply And.intro)) <;> first | assumption | rfl | omega | (exact hI.1) | (exact upto_s (p := fun z v => v = 0) hI.2.2 rfl) | (exact GM_0 (fun z h0 h1 => hI.2.2 z h0 (by omega))) | (exact GM_s hI.2.2 hI.2.1.1) | (rw [← show x2 = s.2 6 2 by omega]; rw [show s.2 6 2 = x2 by omega] at hI; exact hI.2.2) | (have e9 : x2 = s.2 6 2 := by omega; rw [e9] at hI; exact hI.2.2) | (exact hI.2.2.1) | (intro z h0 h1; omega) | (intro e9; rw [hI.2.2.2.1, show x3 = s.2 6 2 by omega]) | (intro e9; exact isNth_no (by rw [show (s.2 6 2).toNat = x3.toNat by omega]; omega)) | (intro e9; omega) | (intro e9; exact isNth_y hI.2.1.1 (by omega) (GM_y hI.2.2.1 (by omega) (by omega) (by assumption)) (by omega)) | (have h9 := many_t (p := noneTo (s.2 13) (s.2 6 2)) (k := x3) (by omega) (by first | exact GM_y hI.2.2.1 (by omega) (by omega) (by assumption) | exact GM_n hI.2.2.1 (by omega) (by omega) (by assumption)); omega) | (have h9 := many_f (p := noneTo (s.2 13) (s.2 6 2)) (k := x3) (by omega) (by first | exact GM_y hI.2.2.1 (by omega) (by omega) (by assumption) | exact GM_n hI.2.2.1 (by omega) (by omega) (by assumption)); omega) | (have h9 : many (noneTo (s.2 13) (s.2 6 2)) (0 : Int).toNat = 0 := rfl; omega) | grind [upI])
theorem vX3_gardenOf_17 (s : MS) (a1 : Int) (hp : tOK (s.2 6) ∧ rng (s.2 13) ((s.2 6) 2)) (x1 : Int) (x2 : Int) (x3 : Int) (f17 : Int → Int) (hI : x1 = a1 ∧ (0 ≤ x3 ∧ x3 ≤ s.2 6 2) ∧ GM (s.2 13) f17 (s.2 6 2) (s.2 6 2) ∧ x2 = many (noneTo (s.2 13) (s.2 6 2)) x3.toNat ∧ (0 ≤ a1 → x2 ≤ a1)) (c_1 : ¬ (s.2 6 2) ≤ x3) (o_3 : (0 ≤ x3 ∧ x3 < 10000)) (c_4 : ¬ (f17 x3) = 1) (c_5 : x2 = x1) : ((a1 = -1 → x3 = many (noneTo (s.2 13) ((s.2 6) 2)) ((s.2 6) 2).toNat) ∧ (a1 ≠ -1 → isNth (noneTo (s.2 13) ((s.2 6) 2)) ((s.2 6) 2) a1 x3)) := by
  obtain ⟨ht, hg⟩ := hp
  have hN := tOK_N ht
  (try have hb := many_b (noneTo (s.2 13) (s.2 6 2)) x3.toNat)
  (try have hx := hg x2 (by omega) (by omega))
  (try unfold lex3)
  (try simp only [bI_0, bI_n, Classical.not_not] at *)
  (try simp (disch := omega) only [i32_id] at *)
  first | done | omega | ((repeat' (with_reducible apply And.intro)) <;> first | assumption | rfl | omega | (exact hI.1) | (exact upto_s (p := fun z v => v = 0) hI.2.2 rfl) | (exact GM_0 (fun z h0 h1 => hI.2.2 z h0 (by omega))) | (exact GM_s hI.2.2 hI.2.1.1) | (rw [← show x2 = s.2 6 2 by omega]; rw [show s.2 6 2 = x2 by omega] at hI; exact hI.2.2) | (have e9 : x2 = s.2 6 2 := by omega; rw [e9] at hI; exact hI.2.2) | (exact hI.2.2.1) | (intro z h0 h1; omega) | (intro e9; rw [hI.2.2.2.1, show x3 = s.2 6 2 by omega]) | (intro e9; exact isNth_no (by rw [show (s.2 6 2).toNat = x3.toNat by omega]; omega)) | (intro e9; omega) | (intro e9; exact isNth_y hI.2.1.1 (by omega) (GM_y hI.2.2.1 (by omega) (by omega) (by assumption)) (by omega)) | (have h9 := many_t (p := noneTo (s.2 13) (s.2 6 2)) (k := x3) (by omega) (by first | exact GM_y hI.2.2.1 (by omega) (by omega) (by assumption) | exact GM_n hI.2.2.1 (by omega) (by omega) (by assumption)); omega) | (have h9 := many_f (p := noneTo (s.2 13) (s.2 6 2)) (k := x3) (by omega) (by first | exact GM_y hI.2.2.1 (by omega) (by omega) (by assumption) | exact GM_n hI.2.2.1 (by omega) (by omega) (by assumption)); omega) | (have h9 : many (noneTo (s.2 13) (s.2 6 2)) (0 : Int).toNat = 0 := rfl; omega) | grind [upI])
theorem vX3_gardenOf_18 (s : MS) (a1 : Int) (hp : tOK (s.2 6) ∧ rng (s.2 13) ((s.2 6) 2)) (x1 : Int) (x2 : Int) (x3 : Int) (f17 : Int → Int) (hI : x1 = a1 ∧ (0 ≤ x3 ∧ x3 ≤ s.2 6 2) ∧ GM (s.2 13) f17 (s.2 6 2) (s.2 6 2) ∧ x2 = many (noneTo (s.2 13) (s.2 6 2)) x3.toNat ∧ (0 ≤ a1 → x2 ≤ a1)) (c_1 : ¬ (s.2 6 2) ≤ x3) (o_3 : (0 ≤ x3 ∧ x3 < 10000)) (c_4 : (f17 x3) = 1) : x1 = a1 ∧ (0 ≤ (i32 (x3 + 1)) ∧ (i32 (x3 + 1)) ≤ s.2 6 2) ∧ GM (s.2 13) f17 (s.2 6 2) (s.2 6 2) ∧ x2 = many (noneTo (s.2 13) (s.2 6 2)) (i32 (x3 + 1)).toNat ∧ (0 ≤ a1 → x2 ≤ a1) := by
  obtain ⟨ht, hg⟩ := hp
  have hN := tOK_N ht
  (try have hb := many_b (noneTo (s.2 13) (s.2 6 2)) x3.toNat)
  (try have hx := hg x2 (by omega) (by omega))
  (try unfold lex3)
  (try simp only [bI_0, bI_n, Classical.not_not] at *)
  (try simp (disch := omega) only [i32_id] at *)
  first | done | omega | ((repeat' (with_reducible apply And.intro)) <;> first | assumption | rfl | omega | (exact hI.1) | (exact upto_s (p := fun z v => v = 0) hI.2.2 rfl) | (exact GM_0 (fun z h0 h1 => hI.2.2 z h0 (by omega))) | (exact GM_s hI.2.2 hI.2.1.1) | (rw [← show x2 = s.2 6 2 by omega]; rw [show s.2 6 2 = x2 by omega] at hI; exact hI.2.2) | (have e9 : x2 = s.2 6 2 := by omega; rw [e9] at hI; exact hI.2.2) | (exact hI.2.2.1) | (intro z h0 h1; omega) | (intro e9; rw [hI.2.2.2.1, show x3 = s.2 6 2 by omega]) | (intro e9; exact isNth_no (by rw [show (s.2 6 2).toNat = x3.toNat by omega]; omega)) | (intro e9; omega) | (intro e9; exact isNth_y hI.2.1.1 (by omega) (GM_y hI.2.2.1 (by omega) (by omega) (by assumption)) (by omega)) | (have h9 := many_t (p := noneTo (s.2 13) (s.2 6 2)) (k := x3) (by omega) (by first | exact GM_y hI.2.2.1 (by omega) (by omega) (by assumption) | exact GM_n hI.2.2.1 (by omega) (by omega) (by assumption)); omega) | (have h9 := many_f (p := noneTo (s.2 13) (s.2 6 2)) (k := x3) (by omega) (by first | exact GM_y hI.2.2.1 (by omega) (by omega) (by assumption) | exact GM_n hI.2.2.1 (by omega) (by omega) (by assumption)); omega) | (have h9 : many (noneTo (s.2 13) (s.2 6 2)) (0 : Int).toNat = 0 := rfl; omega) | grind [upI])
theorem vX3_gardenOf_19 (s : MS) (a1 : Int) (hp : tOK (s.2 6) ∧ rng (s.2 13) ((s.2 6) 2)) (x1 : Int) (x2 : Int) (x3 : Int) (f17 : Int → Int) (hI : x1 = a1 ∧ (0 ≤ x3 ∧ x3 ≤ s.2 6 2) ∧ GM (s.2 13) f17 (s.2 6 2) (s.2 6 2) ∧ x2 = many (noneTo (s.2 13) (s.2 6 2)) x3.toNat ∧ (0 ≤ a1 → x2 ≤ a1)) (c_1 : ¬ (s.2 6 2) ≤ x3) (o_3 : (0 ≤ x3 ∧ x3 < 10000)) (c_4 : (f17 x3) = 1) : lex3 0 0 ((s.2 6 2 - (i32 (x3 + 1))).toNat) 0 0 ((s.2 6 2 - x3).toNat) := by
  obtain ⟨ht, hg⟩ := hp
  have hN := tOK_N ht
  (try have hb := many_b (noneTo (s.2 13) (s.2 6 2)) x3.toNat)
  (try have hx := hg x2 (by omega) (by omega))
  (try unfold lex3)
  (try simp only [bI_0, bI_n, Classical.not_not] at *)
  (try simp (disch := omega) only [i32_id] at *)
  first | done | omega | ((repeat' (with_reducible apply And.intro)) <;> first | assumption | rfl | omega | (exact hI.1) | (exact upto_s (p := fun z v => v = 0) hI.2.2 rfl) | (exact GM_0 (fun z h0 h1 => hI.2.2 z h0 (by omega))) | (exact GM_s hI.2.2 hI.2.1.1) | (rw [← show x2 = s.2 6 2 by omega]; rw [show s.2 6 2 = x2 by omega] at hI; exact hI.2.2) | (have e9 : x2 = s.2 6 2 := by omega; rw [e9] at hI; exact hI.2.2) | (exact hI.2.2.1) | (intro z h0 h1; omega) | (intro e9; rw [hI.2.2.2.1, show x3 = s.2 6 2 by omega]) | (intro e9; exact isNth_no (by rw [show (s.2 6 2).toNat = x3.toNat by omega]; omega)) | (intro e9; omega) | (intro e9; exact isNth_y hI.2.1.1 (by omega) (GM_y hI.2.2.1 (by omega) (by omega) (by assumption)) (by omega)) | (have h9 := many_t (p := noneTo (s.2 13) (s.2 6 2)) (k := x3) (by omega) (by first | exact GM_y hI.2.2.1 (by omega) (by omega) (by assumption) | exact GM_n hI.2.2.1 (by omega) (by omega) (by assumption)); omega) | (have h9 := many_f (p := noneTo (s.2 13) (s.2 6 2)) (k := x3) (by omega) (by first | exact GM_y hI.2.2.1 (by omega) (by omega) (by assumption) | exact GM_n hI.2.2.1 (by omega) (by omega) (by assumption)); omega) | (have h9 : many (noneTo (s.2 13) (s.2 6 2)) (0 : Int).toNat = 0 := rfl; omega) | grind [upI])
theorem vX3_gardenOf_20 (s : MS) (a1 : Int) (hp : tOK (s.2 6) ∧ rng (s.2 13) ((s.2 6) 2)) : a1 = a1 ∧ (0 ≤ (0 : Int) ∧ (0 : Int) ≤ s.2 6 2) ∧ ∀ z : Int, 0 ≤ z → z < (0 : Int) → (s.2 17) z = 0 := by
  obtain ⟨ht, hg⟩ := hp
  have hN := tOK_N ht
  (try have hb := many_b (noneTo (s.2 13) (s.2 6 2)) x3.toNat)
  (try have hx := hg x2 (by omega) (by omega))
  (try unfold lex3)
  (try simp only [bI_0, bI_n, Classical.not_not] at *)
  (try simp (disch := omega) only [i32_id] at *)
  first | done | omega | ((repeat' (with_reducible apply And.intro)) <;> first | assumption | rfl | omega | (exact hI.1) | (exact upto_s (p := fun z v => v = 0) hI.2.2 rfl) | (exact GM_0 (fun z h0 h1 => hI.2.2 z h0 (by omega))) | (exact GM_s hI.2.2 hI.2.1.1) | (rw [← show x2 = s.2 6 2 by omega]; rw [show s.2 6 2 = x2 by omega] at hI; exact hI.2.2) | (have e9 : x2 = s.2 6 2 := by omega; rw [e9] at hI; exact hI.2.2) | (exact hI.2.2.1) | (intro z h0 h1; omega) | (intro e9; rw [hI.2.2.2.1, show x3 = s.2 6 2 by omega]) | (intro e9; exact isNth_no (by rw [show (s.2 6 2).toNat = x3.toNat by omega]; omega)) | (intro e9; omega) | (intro e9; exact isNth_y hI.2.1.1 (by omega) (GM_y hI.2.2.1 (by omega) (by omega) (by assumption)) (by omega)) | (have h9 := many_t (p := noneTo (s.2 13) (s.2 6 2)) (k := x3) (by omega) (by first | exact GM_y hI.2.2.1 (by omega) (by omega) (by assumption) | exact GM_n hI.2.2.1 (by omega) (by omega) (by assumption)); omega) | (have h9 := many_f (p := noneTo (s.2 13) (s.2 6 2)) (k := x3) (by omega) (by first | exact GM_y hI.2.2.1 (by omega) (by omega) (by assumption) | exact GM_n hI.2.2.1 (by omega) (by omega) (by assumption)); omega) | (have h9 : many (noneTo (s.2 13) (s.2 6 2)) (0 : Int).toNat = 0 := rfl; omega) | grind [upI])
theorem allX3_gardenOf (b : AH) (s : MS) (a1 : Int) (hp : tOK (s.2 6) ∧ rng (s.2 13) ((s.2 6) 2)) : ∀ m1 m2 m3 : Nat, (∀ (x1 : Int) (x2 : Int) (f17 : Int → Int), m1 = 0 → m2 = 2 → m3 = ((s.2 6 2 - x2).toNat) → (x1 = a1 ∧ (0 ≤ x2 ∧ x2 ≤ s.2 6 2) ∧ ∀ z : Int, 0 ≤ z → z < x2 → f17 z = 0) → HX3_gardenOf_2 (QX3_gardenOf s a1) b s x1 x2 f17) ∧ (∀ (x1 : Int) (x2 : Int) (f17 : Int → Int), m1 = 0 → m2 = 1 → m3 = ((s.2 6 2 - x2).toNat) → (x1 = a1 ∧ (0 ≤ x2 ∧ x2 ≤ s.2 6 2) ∧ GM (s.2 13) f17 (s.2 6 2) x2) → HX3_gardenOf_27 (QX3_gardenOf s a1) b s x1 x2 f17) ∧ (∀ (x1 : Int) (x2 : Int) (x3 : Int) (f17 : Int → Int), m1 = 0 → m2 = 0 → m3 = ((s.2 6 2 - x3).toNat) → (x1 = a1 ∧ (0 ≤ x3 ∧ x3 ≤ s.2 6 2) ∧ GM (s.2 13) f17 (s.2 6 2) (s.2 6 2) ∧ x2 = many (noneTo (s.2 13) (s.2 6 2)) x3.toNat ∧ (0 ≤ a1 → x2 ≤ a1)) → HX3_gardenOf_59 (QX3_gardenOf s a1) b s x1 x2 x3 f17) := by
  refine lex3_ind ?_
  intro m1 m2 m3 ih
  refine ⟨?_, ?_, ?_⟩
  · rintro x1 x2 f17 rfl rfl rfl hI
    refine bX3_gardenOf_2 b s x1 x2 f17 ?_
    refine ⟨fun c_1 => ?_, fun c_1 => ?_⟩
    · exact (ih _ _ _ (vX3_gardenOf_2 s a1 hp x1 x2 f17 hI c_1)).2.1 x1 0 f17 rfl rfl rfl (vX3_gardenOf_1 s a1 hp x1 x2 f17 hI c_1)
    · have o_2 : (0 ≤ x2 ∧ x2 < 10000) := (vX3_gardenOf_3 s a1 hp x1 x2 f17 hI c_1)
      refine ⟨o_2, ?_⟩
      exact (ih _ _ _ (vX3_gardenOf_5 s a1 hp x1 x2 f17 hI c_1 o_2)).1 x1 (i32 (x2 + 1)) (upI f17 x2 0) rfl rfl rfl (vX3_gardenOf_4 s a1 hp x1 x2 f17 hI c_1 o_2)
  · rintro x1 x2 f17 rfl rfl rfl hI
    refine bX3_gardenOf_27 b s x1 x2 f17 ?_
    refine ⟨fun c_1 => ?_, fun c_1 => ?_⟩
    · exact (ih _ _ _ (vX3_gardenOf_7 s a1 hp x1 x2 f17 hI c_1)).2.2 x1 0 0 f17 rfl rfl rfl (vX3_gardenOf_6 s a1 hp x1 x2 f17 hI c_1)
    · have o_2 : (0 ≤ x2 ∧ x2 < 10000) := (vX3_gardenOf_8 s a1 hp x1 x2 f17 hI c_1)
      refine ⟨o_2, ?_⟩
      have o_3 : (0 ≤ (s.2 13 x2) ∧ (s.2 13 x2) < 10000) := (vX3_gardenOf_9 s a1 hp x1 x2 f17 hI c_1 o_2)
      refine ⟨o_3, ?_⟩
      exact (ih _ _ _ (vX3_gardenOf_11 s a1 hp x1 x2 f17 hI c_1 o_2 o_3)).2.1 x1 (i32 (x2 + 1)) (upI f17 (s.2 13 x2) 1) rfl rfl rfl (vX3_gardenOf_10 s a1 hp x1 x2 f17 hI c_1 o_2 o_3)
  · rintro x1 x2 x3 f17 rfl rfl rfl hI
    refine bX3_gardenOf_59 b s x1 x2 x3 f17 ?_
    refine ⟨fun c_1 => ?_, fun c_1 => ?_⟩
    · refine ⟨fun c_2 => ?_, fun c_2 => ?_⟩
      · exact ⟨f17, (-1), rfl, rfl, (vX3_gardenOf_12 s a1 hp x1 x2 x3 f17 hI c_1 c_2)⟩
      · exact ⟨f17, x2, rfl, rfl, (vX3_gardenOf_13 s a1 hp x1 x2 x3 f17 hI c_1 c_2)⟩
    · have o_3 : (0 ≤ x3 ∧ x3 < 10000) := (vX3_gardenOf_14 s a1 hp x1 x2 x3 f17 hI c_1)
      refine ⟨o_3, ?_⟩
      refine ⟨fun c_4 => ?_, fun c_4 => ?_⟩
      · refine ⟨fun c_5 => ?_, fun c_5 => ?_⟩
        · exact (ih _ _ _ (vX3_gardenOf_16 s a1 hp x1 x2 x3 f17 hI c_1 o_3 c_4 c_5)).2.2 x1 (i32 (x2 + 1)) (i32 (x3 + 1)) f17 rfl rfl rfl (vX3_gardenOf_15 s a1 hp x1 x2 x3 f17 hI c_1 o_3 c_4 c_5)
        · exact ⟨f17, x3, rfl, rfl, (vX3_gardenOf_17 s a1 hp x1 x2 x3 f17 hI c_1 o_3 c_4 c_5)⟩
      · exact (ih _ _ _ (vX3_gardenOf_19 s a1 hp x1 x2 x3 f17 hI c_1 o_3 c_4)).2.2 x1 x2 (i32 (x3 + 1)) f17 rfl rfl rfl (vX3_gardenOf_18 s a1 hp x1 x2 x3 f17 hI c_1 o_3 c_4)
theorem ctX3_gardenOf (b : AH) (s : MS) (a1 : Int) (hp : tOK (s.2 6) ∧ rng (s.2 13) ((s.2 6) 2)) : MC mX3_gardenOf 1 b s [vI a1] (QX3_gardenOf s a1) := by
  refine MC.of (by decide) rfl (Nat.le_of_ble_eq_true rfl) (JW.steq (s2 := sA s 17 (s.2 17)) (by simp only [sA_id, sS_id]) ?_)
  refine bX3_gardenOf_0 b s a1 (s.2 17) ?_
  exact (allX3_gardenOf b s a1 hp _ _ _).1 a1 0 (s.2 17) rfl rfl rfl (vX3_gardenOf_20 s a1 hp)
def HX3_gardens_0 (Q : Option AV → MS → Prop) (b : AH) (s : MS) (f11 : Int → Int) (f12 : Int → Int) (f13 : Int → Int) (f14 : Int → Int) (f15 : Int → Int) (f16 : Int → Int) (f17 : Int → Int) (f18 : Int → Int) (f19 : Int → Int) (k0 : Int) (k25 : Int) (k33 : Int) (k34 : Int) : Prop := MW mX3_gardens 8 Q b 0 [(0, vR 351)] [] (sS (sS (sS (sS (sA (sA (sA (sA (sA (sA (sA (sA (sA s 11 f11) 12 f12) 13 f13) 14 f14) 15 f15) 16 f16) 17 f17) 18 f18) 19 f19) 0 k0) 25 k25) 33 k33) 34 k34)
theorem bX3_gardens_0 {Q : Option AV → MS → Prop} (b : AH) (s : MS) (f11 : Int → Int) (f12 : Int → Int) (f13 : Int → Int) (f14 : Int → Int) (f15 : Int → Int) (f16 : Int → Int) (f17 : Int → Int) (f18 : Int → Int) (f19 : Int → Int) (k0 : Int) (k25 : Int) (k33 : Int) (k34 : Int) (K : (¬ (bI (0 < (s.2 5) 0)) = 0 → (tOK (s.2 6) ∧ aOK (s.2 6) (s.2 7)) ∧ ((∀ (f_4 : Int → Int) (f_5 : Int → Int) (f_6 : Int → Int) (k_7 : Int), (NXO (s.2 6) (s.2 7) f_6) → (tOK (s.2 6) ∧ rng f_6 ((s.2 6) 2)) ∧ ((∀ (f_10 : Int → Int) (r_11 : Int), (((((-1) : Int) = -1 → r_11 = many (noneTo f_6 ((s.2 6) 2)) ((s.2 6) 2).toNat) ∧ (((-1) : Int) ≠ -1 → isNth (noneTo f_6 ((s.2 6) 2)) ((s.2 6) 2) ((-1) : Int) r_11))) → Q (some (vI r_11)) (sS (sS (sS (sS (sA (sA (sA (sA (sA (sA (sA (sA (sA s 11 f_4) 12 f_5) 13 f_6) 14 f14) 15 f15) 16 f16) 17 f_10) 18 f18) 19 f19) 0 0) 25 k_7) 33 k33) 34 k34)))))) ∧ ((bI (0 < (s.2 5) 0)) = 0 → Q (some (vI (-2))) (sS (sS (sS (sS (sA (sA (sA (sA (sA (sA (sA (sA (sA s 11 f11) 12 f12) 13 f13) 14 f14) 15 f15) 16 f16) 17 f17) 18 f18) 19 f19) 0 0) 25 k25) 33 k33) 34 k34))) : HX3_gardens_0 Q b s f11 f12 f13 f14 f15 f16 f17 f18 f19 k0 k25 k33 k34 := by
  refine JW.aload_n dX3_gardens_0 rfl ?_
  refine JW.iconst dX3_gardens_1 rfl ?_
  refine JW.mputI dX3_gardens_2 (pX3_77 _) rfl ?_
  refine JW.steq (s2 := sS (sS (sS (sS (sA (sA (sA (sA (sA (sA (sA (sA (sA s 11 f11) 12 f12) 13 f13) 14 f14) 15 f15) 16 f16) 17 f17) 18 f18) 19 f19) 0 0) 25 k25) 33 k33) 34 k34) (by simp only [sA_A, sS_S, sA_S, sA_lt, sS_lt, Nat.reduceLT, id_eq] <;> rfl) ?_
  refine JW.aload_n dX3_gardens_5 rfl ?_
  refine JW.mcall (As := []) dX3_gardens_6 vX3_isTable rfl q1798 (ctX3_isTable b (sS (sS (sS (sS (sA (sA (sA (sA (sA (sA (sA (sA (sA s 11 f11) 12 f12) 13 f13) 14 f14) 15 f15) 16 f16) 17 f17) 18 f18) 19 f19) 0 0) 25 k25) 33 k33) 34 k34)) (Nat.le_of_ble_eq_true rfl) rfl (Nat.le_of_ble_eq_true rfl) ?_
  rintro _ _ ⟨rfl, eq_1⟩
  refine JW.steq (s2 := sS (sS (sS (sS (sA (sA (sA (sA (sA (sA (sA (sA (sA s 11 f11) 12 f12) 13 f13) 14 f14) 15 f15) 16 f16) 17 f17) 18 f18) 19 f19) 0 0) 25 k25) 33 k33) 34 k34) eq_1 ?_
  refine JW.if_ne (tgt := 15) dX3_gardens_9 rfl (fun c_2 => ?_) (fun c_2 => ?_)
  · have K := K.1 c_2
    refine JW.aload_n dX3_gardens_15 rfl ?_
    obtain ⟨o_3, K⟩ := K
    refine JW.mcall (As := []) dX3_gardens_16 vX3_lays rfl q1867 (ctX3_lays b (sS (sS (sS (sS (sA (sA (sA (sA (sA (sA (sA (sA (sA s 11 f11) 12 f12) 13 f13) 14 f14) 15 f15) 16 f16) 17 f17) 18 f18) 19 f19) 0 0) 25 k25) 33 k33) 34 k34) o_3) (Nat.le_of_ble_eq_true rfl) rfl (Nat.le_of_ble_eq_true rfl) ?_
    rintro _ _ ⟨f_4, f_5, f_6, k_7, rfl, rfl, q_8⟩
    refine JW.steq (s2 := sS (sS (sS (sS (sA (sA (sA (sA (sA (sA (sA (sA (sA s 11 f_4) 12 f_5) 13 f_6) 14 f14) 15 f15) 16 f16) 17 f17) 18 f18) 19 f19) 0 0) 25 k_7) 33 k33) 34 k34) (by simp only [sA_A, sS_S, sA_S, sA_lt, sS_lt, Nat.reduceLT, id_eq] <;> rfl) ?_
    replace K := K f_4 f_5 f_6 k_7 q_8
    refine JW.aload_n dX3_gardens_19 rfl ?_
    refine JW.iconst dX3_gardens_20 rfl ?_
    obtain ⟨o_9, K⟩ := K
    refine JW.mcall (As := [vI (-1)]) dX3_gardens_21 vX3_gardenOf rfl q1940 (ctX3_gardenOf b (sS (sS (sS (sS (sA (sA (sA (sA (sA (sA (sA (sA (sA s 11 f_4) 12 f_5) 13 f_6) 14 f14) 15 f15) 16 f16) 17 f17) 18 f18) 19 f19) 0 0) 25 k_7) 33 k33) 34 k34) (-1) o_9) (Nat.le_of_ble_eq_true rfl) rfl (Nat.le_of_ble_eq_true rfl) ?_
    rintro _ _ ⟨f_10, r_11, rfl, rfl, q_12⟩
    refine JW.steq (s2 := sS (sS (sS (sS (sA (sA (sA (sA (sA (sA (sA (sA (sA s 11 f_4) 12 f_5) 13 f_6) 14 f14) 15 f15) 16 f16) 17 f_10) 18 f18) 19 f19) 0 0) 25 k_7) 33 k33) 34 k34) (by simp only [sA_A, sS_S, sA_S, sA_lt, sS_lt, Nat.reduceLT, id_eq] <;> rfl) ?_
    replace K := K f_10 r_11 q_12
    exact JW.ireturn dX3_gardens_24 rfl rfl ⟨_, rfl, K⟩
  · have K := K.2 c_2
    refine JW.bipush dX3_gardens_12 rfl ?_
    exact JW.ireturn dX3_gardens_14 rfl rfl ⟨_, rfl, K⟩
def QX3_gardens (s : MS) : Option AV → MS → Prop := fun v s' => ∃ (f11 : Int → Int) (f12 : Int → Int) (f13 : Int → Int) (f14 : Int → Int) (f15 : Int → Int) (f16 : Int → Int) (f17 : Int → Int) (f18 : Int → Int) (f19 : Int → Int) (k25 : Int) (k33 : Int) (k34 : Int), v = some (vI (rGardens ((s.2 5) 0) (s.2 6) (s.2 7))) ∧ s' = sS (sS (sS (sS (sA (sA (sA (sA (sA (sA (sA (sA (sA s 11 f11) 12 f12) 13 f13) 14 f14) 15 f15) 16 f16) 17 f17) 18 f18) 19 f19) 0 (0)) 25 k25) 33 k33) 34 k34
theorem vX3_gardens_1 (s : MS) (hp : tOK (s.2 6) ∧ aOK (s.2 6) (s.2 7) ∧ lOK ((s.2 5) 0) (s.2 6)) (c_2 : ¬ (bI (0 < (s.2 5) 0)) = 0) : (tOK (s.2 6) ∧ aOK (s.2 6) (s.2 7)) := by
  obtain ⟨ht, ha, hl⟩ := hp
  have hN := tOK_N ht
  have hg := nx_rng (s.2 6) (s.2 7)
  (try simp only [bI_0, bI_n, Classical.not_not] at *)
  (try have hq := ‹NXO (s.2 6) (s.2 7) _›)
  (try have hq := hI.2.1)
  (try have hN2 : 0 < s.2 6 2 := lOK_N ht hl (by omega))
  (try unfold lex3)
  (try simp only [bI_0, bI_n, Classical.not_not] at *)
  (try simp (disch := omega) only [i32_id] at *)
  first | done | omega | ((repeat' (with_reducible apply And.intro)) <;> first | assumption | rfl | omega | (unfold rGardens; rw [if_neg (by omega)]) | (exact NXO_rng hq) | (unfold rGardens; rw [if_pos (by omega), q_12.1 trivial]; exact many_c _ (fun i h0 h1 => noneTo_c (fun x h0 h1 => hq x h0 h1))) | grind [upI])
theorem vX3_gardens_2 (s : MS) (hp : tOK (s.2 6) ∧ aOK (s.2 6) (s.2 7) ∧ lOK ((s.2 5) 0) (s.2 6)) (c_2 : ¬ (bI (0 < (s.2 5) 0)) = 0) (o_3 : (tOK (s.2 6) ∧ aOK (s.2 6) (s.2 7))) (f_4 : Int → Int) (f_5 : Int → Int) (f_6 : Int → Int) (k_7 : Int) (q_8 : (NXO (s.2 6) (s.2 7) f_6)) : (tOK (s.2 6) ∧ rng f_6 ((s.2 6) 2)) := by
  obtain ⟨ht, ha, hl⟩ := hp
  have hN := tOK_N ht
  have hg := nx_rng (s.2 6) (s.2 7)
  (try simp only [bI_0, bI_n, Classical.not_not] at *)
  (try have hq := ‹NXO (s.2 6) (s.2 7) _›)
  (try have hq := hI.2.1)
  (try have hN2 : 0 < s.2 6 2 := lOK_N ht hl (by omega))
  (try unfold lex3)
  (try simp only [bI_0, bI_n, Classical.not_not] at *)
  (try simp (disch := omega) only [i32_id] at *)
  first | done | omega | ((repeat' (with_reducible apply And.intro)) <;> first | assumption | rfl | omega | (unfold rGardens; rw [if_neg (by omega)]) | (exact NXO_rng hq) | (unfold rGardens; rw [if_pos (by omega), q_12.1 trivial]; exact many_c _ (fun i h0 h1 => noneTo_c (fun x h0 h1 => hq x h0 h1))) | grind [upI])
theorem vX3_gardens_3 (s : MS) (hp : tOK (s.2 6) ∧ aOK (s.2 6) (s.2 7) ∧ lOK ((s.2 5) 0) (s.2 6)) (c_2 : ¬ (bI (0 < (s.2 5) 0)) = 0) (o_3 : (tOK (s.2 6) ∧ aOK (s.2 6) (s.2 7))) (f_4 : Int → Int) (f_5 : Int → Int) (f_6 : Int → Int) (k_7 : Int) (q_8 : (NXO (s.2 6) (s.2 7) f_6)) (o_9 : (tOK (s.2 6) ∧ rng f_6 ((s.2 6) 2))) (f_10 : Int → Int) (r_11 : Int) (q_12 : (((((-1) : Int) = -1 → r_11 = many (noneTo f_6 ((s.2 6) 2)) ((s.2 6) 2).toNat) ∧ (((-1) : Int) ≠ -1 → isNth (noneTo f_6 ((s.2 6) 2)) ((s.2 6) 2) ((-1) : Int) r_11)))) : r_11 = (rGardens ((s.2 5) 0) (s.2 6) (s.2 7)) := by
  obtain ⟨ht, ha, hl⟩ := hp
  have hN := tOK_N ht
  have hg := nx_rng (s.2 6) (s.2 7)
  (try simp only [bI_0, bI_n, Classical.not_not] at *)
  (try have hq := ‹NXO (s.2 6) (s.2 7) _›)
  (try have hq := hI.2.1)
  (try have hN2 : 0 < s.2 6 2 := lOK_N ht hl (by omega))
  (try unfold lex3)
  (try simp only [bI_0, bI_n, Classical.not_not] at *)
  (try simp (disch := omega) only [i32_id] at *)
  first | done | omega | ((repeat' (with_reducible apply And.intro)) <;> first | assumption | rfl | omega | (unfold rGardens; rw [if_neg (by omega)]) | (exact NXO_rng hq) | (unfold rGardens; rw [if_pos (by omega), q_12.1 trivial]; exact many_c _ (fun i h0 h1 => noneTo_c (fun x h0 h1 => hq x h0 h1))) | grind [upI])
theorem vX3_gardens_4 (s : MS) (hp : tOK (s.2 6) ∧ aOK (s.2 6) (s.2 7) ∧ lOK ((s.2 5) 0) (s.2 6)) (c_2 : (bI (0 < (s.2 5) 0)) = 0) : (-2) = (rGardens ((s.2 5) 0) (s.2 6) (s.2 7)) := by
  obtain ⟨ht, ha, hl⟩ := hp
  have hN := tOK_N ht
  have hg := nx_rng (s.2 6) (s.2 7)
  (try simp only [bI_0, bI_n, Classical.not_not] at *)
  (try have hq := ‹NXO (s.2 6) (s.2 7) _›)
  (try have hq := hI.2.1)
  (try have hN2 : 0 < s.2 6 2 := lOK_N ht hl (by omega))
  (try unfold lex3)
  (try simp only [bI_0, bI_n, Classical.not_not] at *)
  (try simp (disch := omega) only [i32_id] at *)
  first | done | omega | ((repeat' (with_reducible apply And.intro)) <;> first | assumption | rfl | omega | (unfold rGardens; rw [if_neg (by omega)]) | (exact NXO_rng hq) | (unfold rGardens; rw [if_pos (by omega), q_12.1 trivial]; exact many_c _ (fun i h0 h1 => noneTo_c (fun x h0 h1 => hq x h0 h1))) | grind [upI])
theorem ctX3_gardens (b : AH) (s : MS) (hp : tOK (s.2 6) ∧ aOK (s.2 6) (s.2 7) ∧ lOK ((s.2 5) 0) (s.2 6)) : MC mX3_gardens 8 b s [] (QX3_gardens s) := by
  refine MC.of (by decide) rfl (Nat.le_of_ble_eq_true rfl) (JW.steq (s2 := sS (sS (sS (sS (sA (sA (sA (sA (sA (sA (sA (sA (sA s 11 (s.2 11)) 12 (s.2 12)) 13 (s.2 13)) 14 (s.2 14)) 15 (s.2 15)) 16 (s.2 16)) 17 (s.2 17)) 18 (s.2 18)) 19 (s.2 19)) 0 (s.1 0)) 25 (s.1 25)) 33 (s.1 33)) 34 (s.1 34)) (by simp only [sA_id, sS_id]) ?_)
  refine bX3_gardens_0 b s (s.2 11) (s.2 12) (s.2 13) (s.2 14) (s.2 15) (s.2 16) (s.2 17) (s.2 18) (s.2 19) (s.1 0) (s.1 25) (s.1 33) (s.1 34) ?_
  refine ⟨fun c_2 => ?_, fun c_2 => ?_⟩
  · have o_3 : (tOK (s.2 6) ∧ aOK (s.2 6) (s.2 7)) := (vX3_gardens_1 s hp c_2)
    refine ⟨o_3, ?_⟩
    intro f_4 f_5 f_6 k_7 q_8
    have o_9 : (tOK (s.2 6) ∧ rng f_6 ((s.2 6) 2)) := (vX3_gardens_2 s hp c_2 o_3 f_4 f_5 f_6 k_7 q_8)
    refine ⟨o_9, ?_⟩
    intro f_10 r_11 q_12
    exact ⟨f_4, f_5, f_6, (s.2 14), (s.2 15), (s.2 16), f_10, (s.2 18), (s.2 19), k_7, (s.1 33), (s.1 34), (rI_c (vX3_gardens_3 s hp c_2 o_3 f_4 f_5 f_6 k_7 q_8 o_9 f_10 r_11 q_12)), rfl⟩
  · exact ⟨(s.2 11), (s.2 12), (s.2 13), (s.2 14), (s.2 15), (s.2 16), (s.2 17), (s.2 18), (s.2 19), (s.1 25), (s.1 33), (s.1 34), (rI_c (vX3_gardens_4 s hp c_2)), rfl⟩
def HX3_garden_0 (Q : Option AV → MS → Prop) (b : AH) (s : MS) (x1 : Int) (f11 : Int → Int) (f12 : Int → Int) (f13 : Int → Int) (f14 : Int → Int) (f15 : Int → Int) (f16 : Int → Int) (f17 : Int → Int) (f18 : Int → Int) (f19 : Int → Int) (k0 : Int) (k25 : Int) (k33 : Int) (k34 : Int) : Prop := MW mX3_garden 8 Q b 0 [(0, vR 351), (1, vI x1)] [] (sS (sS (sS (sS (sA (sA (sA (sA (sA (sA (sA (sA (sA s 11 f11) 12 f12) 13 f13) 14 f14) 15 f15) 16 f16) 17 f17) 18 f18) 19 f19) 0 k0) 25 k25) 33 k33) 34 k34)
theorem bX3_garden_0 {Q : Option AV → MS → Prop} (b : AH) (s : MS) (x1 : Int) (f11 : Int → Int) (f12 : Int → Int) (f13 : Int → Int) (f14 : Int → Int) (f15 : Int → Int) (f16 : Int → Int) (f17 : Int → Int) (f18 : Int → Int) (f19 : Int → Int) (k0 : Int) (k25 : Int) (k33 : Int) (k34 : Int) (K : (¬ (bI (0 < (s.2 5) 0)) = 0 → (tOK (s.2 6) ∧ aOK (s.2 6) (s.2 7)) ∧ ((∀ (f_4 : Int → Int) (f_5 : Int → Int) (f_6 : Int → Int) (k_7 : Int), (NXO (s.2 6) (s.2 7) f_6) → (0 ≤ x1 → (tOK (s.2 6) ∧ rng f_6 ((s.2 6) 2)) ∧ ((∀ (f_11 : Int → Int) (r_12 : Int), (((x1 = -1 → r_12 = many (noneTo f_6 ((s.2 6) 2)) ((s.2 6) 2).toNat) ∧ (x1 ≠ -1 → isNth (noneTo f_6 ((s.2 6) 2)) ((s.2 6) 2) x1 r_12))) → Q (some (vI r_12)) (sS (sS (sS (sS (sA (sA (sA (sA (sA (sA (sA (sA (sA s 11 f_4) 12 f_5) 13 f_6) 14 f14) 15 f15) 16 f16) 17 f_11) 18 f18) 19 f19) 0 0) 25 k_7) 33 k33) 34 k34)))) ∧ (¬ 0 ≤ x1 → Q (some (vI (-1))) (sS (sS (sS (sS (sA (sA (sA (sA (sA (sA (sA (sA (sA s 11 f_4) 12 f_5) 13 f_6) 14 f14) 15 f15) 16 f16) 17 f17) 18 f18) 19 f19) 0 0) 25 k_7) 33 k33) 34 k34))))) ∧ ((bI (0 < (s.2 5) 0)) = 0 → Q (some (vI (-2))) (sS (sS (sS (sS (sA (sA (sA (sA (sA (sA (sA (sA (sA s 11 f11) 12 f12) 13 f13) 14 f14) 15 f15) 16 f16) 17 f17) 18 f18) 19 f19) 0 0) 25 k25) 33 k33) 34 k34))) : HX3_garden_0 Q b s x1 f11 f12 f13 f14 f15 f16 f17 f18 f19 k0 k25 k33 k34 := by
  refine JW.aload_n dX3_garden_0 rfl ?_
  refine JW.iconst dX3_garden_1 rfl ?_
  refine JW.mputI dX3_garden_2 (pX3_77 _) rfl ?_
  refine JW.steq (s2 := sS (sS (sS (sS (sA (sA (sA (sA (sA (sA (sA (sA (sA s 11 f11) 12 f12) 13 f13) 14 f14) 15 f15) 16 f16) 17 f17) 18 f18) 19 f19) 0 0) 25 k25) 33 k33) 34 k34) (by simp only [sA_A, sS_S, sA_S, sA_lt, sS_lt, Nat.reduceLT, id_eq] <;> rfl) ?_
  refine JW.aload_n dX3_garden_5 rfl ?_
  refine JW.mcall (As := []) dX3_garden_6 vX3_isTable rfl q1798 (ctX3_isTable b (sS (sS (sS (sS (sA (sA (sA (sA (sA (sA (sA (sA (sA s 11 f11) 12 f12) 13 f13) 14 f14) 15 f15) 16 f16) 17 f17) 18 f18) 19 f19) 0 0) 25 k25) 33 k33) 34 k34)) (Nat.le_of_ble_eq_true rfl) rfl (Nat.le_of_ble_eq_true rfl) ?_
  rintro _ _ ⟨rfl, eq_1⟩
  refine JW.steq (s2 := sS (sS (sS (sS (sA (sA (sA (sA (sA (sA (sA (sA (sA s 11 f11) 12 f12) 13 f13) 14 f14) 15 f15) 16 f16) 17 f17) 18 f18) 19 f19) 0 0) 25 k25) 33 k33) 34 k34) eq_1 ?_
  refine JW.if_ne (tgt := 15) dX3_garden_9 rfl (fun c_2 => ?_) (fun c_2 => ?_)
  · have K := K.1 c_2
    refine JW.aload_n dX3_garden_15 rfl ?_
    obtain ⟨o_3, K⟩ := K
    refine JW.mcall (As := []) dX3_garden_16 vX3_lays rfl q1867 (ctX3_lays b (sS (sS (sS (sS (sA (sA (sA (sA (sA (sA (sA (sA (sA s 11 f11) 12 f12) 13 f13) 14 f14) 15 f15) 16 f16) 17 f17) 18 f18) 19 f19) 0 0) 25 k25) 33 k33) 34 k34) o_3) (Nat.le_of_ble_eq_true rfl) rfl (Nat.le_of_ble_eq_true rfl) ?_
    rintro _ _ ⟨f_4, f_5, f_6, k_7, rfl, rfl, q_8⟩
    refine JW.steq (s2 := sS (sS (sS (sS (sA (sA (sA (sA (sA (sA (sA (sA (sA s 11 f_4) 12 f_5) 13 f_6) 14 f14) 15 f15) 16 f16) 17 f17) 18 f18) 19 f19) 0 0) 25 k_7) 33 k33) 34 k34) (by simp only [sA_A, sS_S, sA_S, sA_lt, sS_lt, Nat.reduceLT, id_eq] <;> rfl) ?_
    replace K := K f_4 f_5 f_6 k_7 q_8
    refine JW.iload_n dX3_garden_19 rfl ?_
    refine JW.if_ge (tgt := 27) dX3_garden_20 rfl (fun c_9 => ?_) (fun c_9 => ?_)
    · have K := K.1 c_9
      refine JW.aload_n dX3_garden_27 rfl ?_
      refine JW.iload_n dX3_garden_28 rfl ?_
      obtain ⟨o_10, K⟩ := K
      refine JW.mcall (As := [vI x1]) dX3_garden_29 vX3_gardenOf rfl q1940 (ctX3_gardenOf b (sS (sS (sS (sS (sA (sA (sA (sA (sA (sA (sA (sA (sA s 11 f_4) 12 f_5) 13 f_6) 14 f14) 15 f15) 16 f16) 17 f17) 18 f18) 19 f19) 0 0) 25 k_7) 33 k33) 34 k34) x1 o_10) (Nat.le_of_ble_eq_true rfl) rfl (Nat.le_of_ble_eq_true rfl) ?_
      rintro _ _ ⟨f_11, r_12, rfl, rfl, q_13⟩
      refine JW.steq (s2 := sS (sS (sS (sS (sA (sA (sA (sA (sA (sA (sA (sA (sA s 11 f_4) 12 f_5) 13 f_6) 14 f14) 15 f15) 16 f16) 17 f_11) 18 f18) 19 f19) 0 0) 25 k_7) 33 k33) 34 k34) (by simp only [sA_A, sS_S, sA_S, sA_lt, sS_lt, Nat.reduceLT, id_eq] <;> rfl) ?_
      replace K := K f_11 r_12 q_13
      exact JW.ireturn dX3_garden_32 rfl rfl ⟨_, rfl, K⟩
    · have K := K.2 c_9
      refine JW.iconst dX3_garden_23 rfl ?_
      refine JW.goto (tgt := 32) dX3_garden_24 rfl ?_
      exact JW.ireturn dX3_garden_32 rfl rfl ⟨_, rfl, K⟩
  · have K := K.2 c_2
    refine JW.bipush dX3_garden_12 rfl ?_
    exact JW.ireturn dX3_garden_14 rfl rfl ⟨_, rfl, K⟩
def QX3_garden (s : MS) (a1 : Int) : Option AV → MS → Prop := fun v s' => ∃ (f11 : Int → Int) (f12 : Int → Int) (f13 : Int → Int) (f14 : Int → Int) (f15 : Int → Int) (f16 : Int → Int) (f17 : Int → Int) (f18 : Int → Int) (f19 : Int → Int) (k25 : Int) (k33 : Int) (k34 : Int), v = some (vI (rGarden ((s.2 5) 0) (s.2 6) (s.2 7) a1)) ∧ s' = sS (sS (sS (sS (sA (sA (sA (sA (sA (sA (sA (sA (sA s 11 f11) 12 f12) 13 f13) 14 f14) 15 f15) 16 f16) 17 f17) 18 f18) 19 f19) 0 (0)) 25 k25) 33 k33) 34 k34
theorem vX3_garden_1 (s : MS) (a1 : Int) (hp : tOK (s.2 6) ∧ aOK (s.2 6) (s.2 7) ∧ lOK ((s.2 5) 0) (s.2 6)) (c_2 : ¬ (bI (0 < (s.2 5) 0)) = 0) : (tOK (s.2 6) ∧ aOK (s.2 6) (s.2 7)) := by
  obtain ⟨ht, ha, hl⟩ := hp
  have hN := tOK_N ht
  have hg := nx_rng (s.2 6) (s.2 7)
  (try simp only [bI_0, bI_n, Classical.not_not] at *)
  (try have hq := ‹NXO (s.2 6) (s.2 7) _›)
  (try have hq := hI.2.1)
  (try have hN2 : 0 < s.2 6 2 := lOK_N ht hl (by omega))
  (try unfold lex3)
  (try simp only [bI_0, bI_n, Classical.not_not] at *)
  (try simp (disch := omega) only [i32_id] at *)
  first | done | omega | ((repeat' (with_reducible apply And.intro)) <;> first | assumption | rfl | omega | (unfold rGarden; rw [if_neg (by omega)]) | (exact NXO_rng hq) | (unfold rGarden; rw [if_pos (by omega)]; exact nth_eq (isNth_no (by omega))) | (unfold rGarden; rw [if_pos (by omega)]; exact nth_eq (isNth_c (fun z h0 h1 => noneTo_c (fun x h0 h1 => hq x h0 h1)) (q_13.2 (by omega)))) | grind [upI])
theorem vX3_garden_2 (s : MS) (a1 : Int) (hp : tOK (s.2 6) ∧ aOK (s.2 6) (s.2 7) ∧ lOK ((s.2 5) 0) (s.2 6)) (c_2 : ¬ (bI (0 < (s.2 5) 0)) = 0) (o_3 : (tOK (s.2 6) ∧ aOK (s.2 6) (s.2 7))) (f_4 : Int → Int) (f_5 : Int → Int) (f_6 : Int → Int) (k_7 : Int) (q_8 : (NXO (s.2 6) (s.2 7) f_6)) (c_9 : 0 ≤ a1) : (tOK (s.2 6) ∧ rng f_6 ((s.2 6) 2)) := by
  obtain ⟨ht, ha, hl⟩ := hp
  have hN := tOK_N ht
  have hg := nx_rng (s.2 6) (s.2 7)
  (try simp only [bI_0, bI_n, Classical.not_not] at *)
  (try have hq := ‹NXO (s.2 6) (s.2 7) _›)
  (try have hq := hI.2.1)
  (try have hN2 : 0 < s.2 6 2 := lOK_N ht hl (by omega))
  (try unfold lex3)
  (try simp only [bI_0, bI_n, Classical.not_not] at *)
  (try simp (disch := omega) only [i32_id] at *)
  first | done | omega | ((repeat' (with_reducible apply And.intro)) <;> first | assumption | rfl | omega | (unfold rGarden; rw [if_neg (by omega)]) | (exact NXO_rng hq) | (unfold rGarden; rw [if_pos (by omega)]; exact nth_eq (isNth_no (by omega))) | (unfold rGarden; rw [if_pos (by omega)]; exact nth_eq (isNth_c (fun z h0 h1 => noneTo_c (fun x h0 h1 => hq x h0 h1)) (q_13.2 (by omega)))) | grind [upI])
theorem vX3_garden_3 (s : MS) (a1 : Int) (hp : tOK (s.2 6) ∧ aOK (s.2 6) (s.2 7) ∧ lOK ((s.2 5) 0) (s.2 6)) (c_2 : ¬ (bI (0 < (s.2 5) 0)) = 0) (o_3 : (tOK (s.2 6) ∧ aOK (s.2 6) (s.2 7))) (f_4 : Int → Int) (f_5 : Int → Int) (f_6 : Int → Int) (k_7 : Int) (q_8 : (NXO (s.2 6) (s.2 7) f_6)) (c_9 : 0 ≤ a1) (o_10 : (tOK (s.2 6) ∧ rng f_6 ((s.2 6) 2))) (f_11 : Int → Int) (r_12 : Int) (q_13 : (((a1 = -1 → r_12 = many (noneTo f_6 ((s.2 6) 2)) ((s.2 6) 2).toNat) ∧ (a1 ≠ -1 → isNth (noneTo f_6 ((s.2 6) 2)) ((s.2 6) 2) a1 r_12)))) : r_12 = (rGarden ((s.2 5) 0) (s.2 6) (s.2 7) a1) := by
  obtain ⟨ht, ha, hl⟩ := hp
  have hN := tOK_N ht
  have hg := nx_rng (s.2 6) (s.2 7)
  (try simp only [bI_0, bI_n, Classical.not_not] at *)
  (try have hq := ‹NXO (s.2 6) (s.2 7) _›)
  (try have hq := hI.2.1)
  (try have hN2 : 0 < s.2 6 2 := lOK_N ht hl (by omega))
  (try unfold lex3)
  (try simp only [bI_0, bI_n, Classical.not_not] at *)
  (try simp (disch := omega) only [i32_id] at *)
  first | done | omega | ((repeat' (with_reducible apply And.intro)) <;> first | assumption | rfl | omega | (unfold rGarden; rw [if_neg (by omega)]) | (exact NXO_rng hq) | (unfold rGarden; rw [if_pos (by omega)]; exact nth_eq (isNth_no (by omega))) | (unfold rGarden; rw [if_pos (by omega)]; exact nth_eq (isNth_c (fun z h0 h1 => noneTo_c (fun x h0 h1 => hq x h0 h1)) (q_13.2 (by omega)))) | grind [upI])
theorem vX3_garden_4 (s : MS) (a1 : Int) (hp : tOK (s.2 6) ∧ aOK (s.2 6) (s.2 7) ∧ lOK ((s.2 5) 0) (s.2 6)) (c_2 : ¬ (bI (0 < (s.2 5) 0)) = 0) (o_3 : (tOK (s.2 6) ∧ aOK (s.2 6) (s.2 7))) (f_4 : Int → Int) (f_5 : Int → Int) (f_6 : Int → Int) (k_7 : Int) (q_8 : (NXO (s.2 6) (s.2 7) f_6)) (c_9 : ¬ 0 ≤ a1) : (-1) = (rGarden ((s.2 5) 0) (s.2 6) (s.2 7) a1) := by
  obtain ⟨ht, ha, hl⟩ := hp
  have hN := tOK_N ht
  have hg := nx_rng (s.2 6) (s.2 7)
  (try simp only [bI_0, bI_n, Classical.not_not] at *)
  (try have hq := ‹NXO (s.2 6) (s.2 7) _›)
  (try have hq := hI.2.1)
  (try have hN2 : 0 < s.2 6 2 := lOK_N ht hl (by omega))
  (try unfold lex3)
  (try simp only [bI_0, bI_n, Classical.not_not] at *)
  (try simp (disch := omega) only [i32_id] at *)
  first | done | omega | ((repeat' (with_reducible apply And.intro)) <;> first | assumption | rfl | omega | (unfold rGarden; rw [if_neg (by omega)]) | (exact NXO_rng hq) | (unfold rGarden; rw [if_pos (by omega)]; exact nth_eq (isNth_no (by omega))) | (unfold rGarden; rw [if_pos (by omega)]; exact nth_eq (isNth_c (fun z h0 h1 => noneTo_c (fun x h0 h1 => hq x h0 h1)) (q_13.2 (by omega)))) | grind [upI])
theorem vX3_garden_5 (s : MS) (a1 : Int) (hp : tOK (s.2 6) ∧ aOK (s.2 6) (s.2 7) ∧ lOK ((s.2 5) 0) (s.2 6)) (c_2 : (bI (0 < (s.2 5) 0)) = 0) : (-2) = (rGarden ((s.2 5) 0) (s.2 6) (s.2 7) a1) := by
  obtain ⟨ht, ha, hl⟩ := hp
  have hN := tOK_N ht
  have hg := nx_rng (s.2 6) (s.2 7)
  (try simp only [bI_0, bI_n, Classical.not_not] at *)
  (try have hq := ‹NXO (s.2 6) (s.2 7) _›)
  (try have hq := hI.2.1)
  (try have hN2 : 0 < s.2 6 2 := lOK_N ht hl (by omega))
  (try unfold lex3)
  (try simp only [bI_0, bI_n, Classical.not_not] at *)
  (try simp (disch := omega) only [i32_id] at *)
  first | done | omega | ((repeat' (with_reducible apply And.intro)) <;> first | assumption | rfl | omega | (unfold rGarden; rw [if_neg (by omega)]) | (exact NXO_rng hq) | (unfold rGarden; rw [if_pos (by omega)]; exact nth_eq (isNth_no (by omega))) | (unfold rGarden; rw [if_pos (by omega)]; exact nth_eq (isNth_c (fun z h0 h1 => noneTo_c (fun x h0 h1 => hq x h0 h1)) (q_13.2 (by omega)))) | grind [upI])
theorem ctX3_garden (b : AH) (s : MS) (a1 : Int) (hp : tOK (s.2 6) ∧ aOK (s.2 6) (s.2 7) ∧ lOK ((s.2 5) 0) (s.2 6)) : MC mX3_garden 8 b s [vI a1] (QX3_garden s a1) := by
  refine MC.of (by decide) rfl (Nat.le_of_ble_eq_true rfl) (JW.steq (s2 := sS (sS (sS (sS (sA (sA (sA (sA (sA (sA (sA (sA (sA s 11 (s.2 11)) 12 (s.2 12)) 13 (s.2 13)) 14 (s.2 14)) 15 (s.2 15)) 16 (s.2 16)) 17 (s.2 17)) 18 (s.2 18)) 19 (s.2 19)) 0 (s.1 0)) 25 (s.1 25)) 33 (s.1 33)) 34 (s.1 34)) (by simp only [sA_id, sS_id]) ?_)
  refine bX3_garden_0 b s a1 (s.2 11) (s.2 12) (s.2 13) (s.2 14) (s.2 15) (s.2 16) (s.2 17) (s.2 18) (s.2 19) (s.1 0) (s.1 25) (s.1 33) (s.1 34) ?_
  refine ⟨fun c_2 => ?_, fun c_2 => ?_⟩
  · have o_3 : (tOK (s.2 6) ∧ aOK (s.2 6) (s.2 7)) := (vX3_garden_1 s a1 hp c_2)
    refine ⟨o_3, ?_⟩
    intro f_4 f_5 f_6 k_7 q_8
    refine ⟨fun c_9 => ?_, fun c_9 => ?_⟩
    · have o_10 : (tOK (s.2 6) ∧ rng f_6 ((s.2 6) 2)) := (vX3_garden_2 s a1 hp c_2 o_3 f_4 f_5 f_6 k_7 q_8 c_9)
      refine ⟨o_10, ?_⟩
      intro f_11 r_12 q_13
      exact ⟨f_4, f_5, f_6, (s.2 14), (s.2 15), (s.2 16), f_11, (s.2 18), (s.2 19), k_7, (s.1 33), (s.1 34), (rI_c (vX3_garden_3 s a1 hp c_2 o_3 f_4 f_5 f_6 k_7 q_8 c_9 o_10 f_11 r_12 q_13)), rfl⟩
    · exact ⟨f_4, f_5, f_6, (s.2 14), (s.2 15), (s.2 16), (s.2 17), (s.2 18), (s.2 19), k_7, (s.1 33), (s.1 34), (rI_c (vX3_garden_4 s a1 hp c_2 o_3 f_4 f_5 f_6 k_7 q_8 c_9)), rfl⟩
  · exact ⟨(s.2 11), (s.2 12), (s.2 13), (s.2 14), (s.2 15), (s.2 16), (s.2 17), (s.2 18), (s.2 19), (s.1 25), (s.1 33), (s.1 34), (rI_c (vX3_garden_5 s a1 hp c_2)), rfl⟩
def HX3_fromOf_0 (Q : Option AV → MS → Prop) (b : AH) (s : MS) (x1 : Int) (x2 : Int) : Prop := MW mX3_fromOf 1 Q b 0 [(0, vR 351), (1, vI x1), (2, vI x2)] [] s
def HX3_fromOf_5 (Q : Option AV → MS → Prop) (b : AH) (s : MS) (x1 : Int) (x2 : Int) (x3 : Int) (x4 : Int) : Prop := MW mX3_fromOf 1 Q b 5 [(0, vR 351), (1, vI x1), (2, vI x2), (3, vI x3), (4, vI x4)] [] s
theorem bX3_fromOf_0 {Q : Option AV → MS → Prop} (b : AH) (s : MS) (x1 : Int) (x2 : Int) (K : HX3_fromOf_5 Q b s x1 x2 0 0) : HX3_fromOf_0 Q b s x1 x2 := by
  refine JW.iconst dX3_fromOf_0 rfl ?_
  refine JW.istore_n (ls' := [(0, vR 351), (1, vI x1), (2, vI x2), (3, vI 0)]) dX3_fromOf_1 (Nat.le_of_ble_eq_true rfl) rfl ?_
  refine JW.iconst dX3_fromOf_2 rfl ?_
  refine JW.istore (ls' := [(0, vR 351), (1, vI x1), (2, vI x2), (3, vI 0), (4, vI 0)]) dX3_fromOf_3 (Nat.le_of_ble_eq_true rfl) rfl ?_
  exact JW.pick [0, 1, 2, 3, 4] rfl K
theorem bX3_fromOf_5 {Q : Option AV → MS → Prop} (b : AH) (s : MS) (x1 : Int) (x2 : Int) (x3 : Int) (x4 : Int) (K : ((s.2 6 2) ≤ x4 → (¬ x2 = (-1) → Q (some (vI (-1))) s) ∧ (x2 = (-1) → Q (some (vI x3)) s)) ∧ (¬ (s.2 6 2) ≤ x4 → (0 ≤ x4 ∧ x4 < 10000) ∧ (((s.2 13 x4) = x1 → (¬ x3 = x2 → HX3_fromOf_5 Q b s x1 x2 (i32 (x3 + 1)) (i32 (x4 + 1))) ∧ (x3 = x2 → Q (some (vI x4)) s)) ∧ (¬ (s.2 13 x4) = x1 → HX3_fromOf_5 Q b s x1 x2 x3 (i32 (x4 + 1)))))) : HX3_fromOf_5 Q b s x1 x2 x3 x4 := by
  refine JW.iload dX3_fromOf_5 rfl ?_
  refine JW.aload_n dX3_fromOf_7 rfl ?_
  refine JW.mget (v := vR 358) dX3_fromOf_8 fX3_34 rfl ?_
  refine JW.iconst dX3_fromOf_11 rfl ?_
  refine JW.mald 6 (x := (s.2 6 2)) dX3_fromOf_12 (Nat.le_of_ble_eq_true rfl) rfl (by decide) (by decide) rfl ?_
  refine JW.icmp_ge (tgt := 47) dX3_fromOf_13 rfl (fun c_1 => ?_) (fun c_1 => ?_)
  · have K := K.1 c_1
    refine JW.iload_n dX3_fromOf_47 rfl ?_
    refine JW.iconst dX3_fromOf_48 rfl ?_
    refine JW.icmp_ne (tgt := 56) dX3_fromOf_49 rfl (fun c_2 => ?_) (fun c_2 => ?_)
    · have K := K.1 c_2
      refine JW.iconst dX3_fromOf_56 rfl ?_
      exact JW.ireturn dX3_fromOf_57 rfl rfl ⟨_, rfl, K⟩
    · have K := K.2 c_2
      refine JW.iload_n dX3_fromOf_52 rfl ?_
      refine JW.goto (tgt := 57) dX3_fromOf_53 rfl ?_
      exact JW.ireturn dX3_fromOf_57 rfl rfl ⟨_, rfl, K⟩
  · have K := K.2 c_1
    refine JW.aload_n dX3_fromOf_16 rfl ?_
    refine JW.mget (v := vR 365) dX3_fromOf_17 fX3_56 rfl ?_
    refine JW.iload dX3_fromOf_20 rfl ?_
    obtain ⟨o_3, K⟩ := K
    refine JW.mald 13 (x := (s.2 13 x4)) dX3_fromOf_22 (Nat.le_of_ble_eq_true rfl) rfl o_3.1 o_3.2 rfl ?_
    refine JW.iload_n dX3_fromOf_23 rfl ?_
    refine JW.icmp_eq (tgt := 30) dX3_fromOf_24 rfl (fun c_4 => ?_) (fun c_4 => ?_)
    · have K := K.1 c_4
      refine JW.iload_n dX3_fromOf_30 rfl ?_
      refine JW.iload_n dX3_fromOf_31 rfl ?_
      refine JW.icmp_ne (tgt := 38) dX3_fromOf_32 rfl (fun c_5 => ?_) (fun c_5 => ?_)
      · have K := K.1 c_5
        refine JW.iinc (ls' := [(0, vR 351), (1, vI x1), (2, vI x2), (3, vI (i32 (x3 + 1))), (4, vI x4)]) dX3_fromOf_38 (Nat.le_of_ble_eq_true rfl) rfl rfl ?_
        refine JW.iinc (ls' := [(0, vR 351), (1, vI x1), (2, vI x2), (3, vI (i32 (x3 + 1))), (4, vI (i32 (x4 + 1)))]) dX3_fromOf_41 (Nat.le_of_ble_eq_true rfl) rfl rfl ?_
        refine JW.goto (tgt := 5) dX3_fromOf_44 rfl ?_
        exact JW.pick [0, 1, 2, 3, 4] rfl K
      · have K := K.2 c_5
        refine JW.iload dX3_fromOf_35 rfl ?_
        exact JW.ireturn dX3_fromOf_37 rfl rfl ⟨_, rfl, K⟩
    · have K := K.2 c_4
      refine JW.goto (tgt := 41) dX3_fromOf_27 rfl ?_
      refine JW.iinc (ls' := [(0, vR 351), (1, vI x1), (2, vI x2), (3, vI x3), (4, vI (i32 (x4 + 1)))]) dX3_fromOf_41 (Nat.le_of_ble_eq_true rfl) rfl rfl ?_
      refine JW.goto (tgt := 5) dX3_fromOf_44 rfl ?_
      exact JW.pick [0, 1, 2, 3, 4] rfl K
def QX3_fromOf (s : MS) (a1 : Int) (a2 : Int) : Option AV → MS → Prop := fun v s' => ∃ (r : Int), v = some (vI r) ∧ s' = s ∧ (((a2 = -1 → r = many (fun y => (s.2 13) y = a1) ((s.2 6) 2).toNat) ∧ (a2 ≠ -1 → isNth (fun y => (s.2 13) y = a1) ((s.2 6) 2) a2 r)))
theorem vX3_fromOf_1 (s : MS) (a1 : Int) (a2 : Int) (hp : tOK (s.2 6) ∧ -1 ≤ a2) (x1 : Int) (x2 : Int) (x3 : Int) (x4 : Int) (hI : x1 = a1 ∧ x2 = a2 ∧ (0 ≤ x4 ∧ x4 ≤ s.2 6 2) ∧ x3 = many (fun y => s.2 13 y = a1) x4.toNat ∧ (0 ≤ a2 → x3 ≤ a2)) (c_1 : (s.2 6 2) ≤ x4) (c_2 : ¬ x2 = (-1)) : ((a2 = -1 → (-1) = many (fun y => (s.2 13) y = a1) ((s.2 6) 2).toNat) ∧ (a2 ≠ -1 → isNth (fun y => (s.2 13) y = a1) ((s.2 6) 2) a2 (-1))) := by
  obtain ⟨ht, hi⟩ := hp
  have hN := tOK_N ht
  (try have hb := many_b (fun y => s.2 13 y = a1) x4.toNat)
  (try rw [hI.1] at *)
  (try unfold lex3)
  (try simp only [bI_0, bI_n, Classical.not_not] at *)
  (try simp (disch := omega) only [i32_id] at *)
  first | done | omega | ((repeat' (with_reducible apply And.intro)) <;> first | assumption | rfl | omega | (exact hI.1) | (intro e9; rw [hI.2.2.2.1, show x4 = s.2 6 2 by omega]) | (intro e9; exact isNth_no (by rw [show (s.2 6 2).toNat = x4.toNat by omega]; omega)) | (intro e9; omega) | (intro e9; exact isNth_y hI.2.2.1.1 (by omega) (by assumption) (by omega)) | (have h9 := many_t (p := fun y => s.2 13 y = a1) (k := x4) (by omega) (by assumption); omega) | (have h9 := many_f (p := fun y => s.2 13 y = a1) (k := x4) (by omega) (by assumption); omega) | (have h9 : many (fun y => s.2 13 y = a1) (0 : Int).toNat = 0 := rfl; omega) | grind [upI])
theorem vX3_fromOf_2 (s : MS) (a1 : Int) (a2 : Int) (hp : tOK (s.2 6) ∧ -1 ≤ a2) (x1 : Int) (x2 : Int) (x3 : Int) (x4 : Int) (hI : x1 = a1 ∧ x2 = a2 ∧ (0 ≤ x4 ∧ x4 ≤ s.2 6 2) ∧ x3 = many (fun y => s.2 13 y = a1) x4.toNat ∧ (0 ≤ a2 → x3 ≤ a2)) (c_1 : (s.2 6 2) ≤ x4) (c_2 : x2 = (-1)) : ((a2 = -1 → x3 = many (fun y => (s.2 13) y = a1) ((s.2 6) 2).toNat) ∧ (a2 ≠ -1 → isNth (fun y => (s.2 13) y = a1) ((s.2 6) 2) a2 x3)) := by
  obtain ⟨ht, hi⟩ := hp
  have hN := tOK_N ht
  (try have hb := many_b (fun y => s.2 13 y = a1) x4.toNat)
  (try rw [hI.1] at *)
  (try unfold lex3)
  (try simp only [bI_0, bI_n, Classical.not_not] at *)
  (try simp (disch := omega) only [i32_id] at *)
  first | done | omega | ((repeat' (with_reducible apply And.intro)) <;> first | assumption | rfl | omega | (exact hI.1) | (intro e9; rw [hI.2.2.2.1, show x4 = s.2 6 2 by omega]) | (intro e9; exact isNth_no (by rw [show (s.2 6 2).toNat = x4.toNat by omega]; omega)) | (intro e9; omega) | (intro e9; exact isNth_y hI.2.2.1.1 (by omega) (by assumption) (by omega)) | (have h9 := many_t (p := fun y => s.2 13 y = a1) (k := x4) (by omega) (by assumption); omega) | (have h9 := many_f (p := fun y => s.2 13 y = a1) (k := x4) (by omega) (by assumption); omega) | (have h9 : many (fun y => s.2 13 y = a1) (0 : Int).toNat = 0 := rfl; omega) | grind [upI])
theorem vX3_fromOf_3 (s : MS) (a1 : Int) (a2 : Int) (hp : tOK (s.2 6) ∧ -1 ≤ a2) (x1 : Int) (x2 : Int) (x3 : Int) (x4 : Int) (hI : x1 = a1 ∧ x2 = a2 ∧ (0 ≤ x4 ∧ x4 ≤ s.2 6 2) ∧ x3 = many (fun y => s.2 13 y = a1) x4.toNat ∧ (0 ≤ a2 → x3 ≤ a2)) (c_1 : ¬ (s.2 6 2) ≤ x4) : (0 ≤ x4 ∧ x4 < 10000) := by
  obtain ⟨ht, hi⟩ := hp
  have hN := tOK_N ht
  (try have hb := many_b (fun y => s.2 13 y = a1) x4.toNat)
  (try rw [hI.1] at *)
  (try unfold lex3)
  (try simp only [bI_0, bI_n, Classical.not_not] at *)
  (try simp (disch := omega) only [i32_id] at *)
  first | done | omega | ((repeat' (with_reducible apply And.intro)) <;> first | assumption | rfl | omega | (exact hI.1) | (intro e9; rw [hI.2.2.2.1, show x4 = s.2 6 2 by omega]) | (intro e9; exact isNth_no (by rw [show (s.2 6 2).toNat = x4.toNat by omega]; omega)) | (intro e9; omega) | (intro e9; exact isNth_y hI.2.2.1.1 (by omega) (by assumption) (by omega)) | (have h9 := many_t (p := fun y => s.2 13 y = a1) (k := x4) (by omega) (by assumption); omega) | (have h9 := many_f (p := fun y => s.2 13 y = a1) (k := x4) (by omega) (by assumption); omega) | (have h9 : many (fun y => s.2 13 y = a1) (0 : Int).toNat = 0 := rfl; omega) | grind [upI])
theorem vX3_fromOf_4 (s : MS) (a1 : Int) (a2 : Int) (hp : tOK (s.2 6) ∧ -1 ≤ a2) (x1 : Int) (x2 : Int) (x3 : Int) (x4 : Int) (hI : x1 = a1 ∧ x2 = a2 ∧ (0 ≤ x4 ∧ x4 ≤ s.2 6 2) ∧ x3 = many (fun y => s.2 13 y = a1) x4.toNat ∧ (0 ≤ a2 → x3 ≤ a2)) (c_1 : ¬ (s.2 6 2) ≤ x4) (o_3 : (0 ≤ x4 ∧ x4 < 10000)) (c_4 : (s.2 13 x4) = x1) (c_5 : ¬ x3 = x2) : x1 = a1 ∧ x2 = a2 ∧ (0 ≤ (i32 (x4 + 1)) ∧ (i32 (x4 + 1)) ≤ s.2 6 2) ∧ (i32 (x3 + 1)) = many (fun y => s.2 13 y = a1) (i32 (x4 + 1)).toNat ∧ (0 ≤ a2 → (i32 (x3 + 1)) ≤ a2) := by
  obtain ⟨ht, hi⟩ := hp
  have hN := tOK_N ht
  (try have hb := many_b (fun y => s.2 13 y = a1) x4.toNat)
  (try rw [hI.1] at *)
  (try unfold lex3)
  (try simp only [bI_0, bI_n, Classical.not_not] at *)
  (try simp (disch := omega) only [i32_id] at *)
  first | done | omega | ((repeat' (with_reducible apply And.intro)) <;> first | assumption | rfl | omega | (exact hI.1) | (intro e9; rw [hI.2.2.2.1, show x4 = s.2 6 2 by omega]) | (intro e9; exact isNth_no (by rw [show (s.2 6 2).toNat = x4.toNat by omega]; omega)) | (intro e9; omega) | (intro e9; exact isNth_y hI.2.2.1.1 (by omega) (by assumption) (by omega)) | (have h9 := many_t (p := fun y => s.2 13 y = a1) (k := x4) (by omega) (by assumption); omega) | (have h9 := many_f (p := fun y => s.2 13 y = a1) (k := x4) (by omega) (by assumption); omega) | (have h9 : many (fun y => s.2 13 y = a1) (0 : Int).toNat = 0 := rfl; omega) | grind [upI])
theorem vX3_fromOf_5 (s : MS) (a1 : Int) (a2 : Int) (hp : tOK (s.2 6) ∧ -1 ≤ a2) (x1 : Int) (x2 : Int) (x3 : Int) (x4 : Int) (hI : x1 = a1 ∧ x2 = a2 ∧ (0 ≤ x4 ∧ x4 ≤ s.2 6 2) ∧ x3 = many (fun y => s.2 13 y = a1) x4.toNat ∧ (0 ≤ a2 → x3 ≤ a2)) (c_1 : ¬ (s.2 6 2) ≤ x4) (o_3 : (0 ≤ x4 ∧ x4 < 10000)) (c_4 : (s.2 13 x4) = x1) (c_5 : ¬ x3 = x2) : lex3 0 0 ((s.2 6 2 - (i32 (x4 + 1))).toNat) 0 0 ((s.2 6 2 - x4).toNat) := by
  obtain ⟨ht, hi⟩ := hp
  have hN := tOK_N ht
  (try have hb := many_b (fun y => s.2 13 y = a1) x4.toNat)
  (try rw [hI.1] at *)
  (try unfold lex3)
  (try simp only [bI_0, bI_n, Classical.not_not] at *)
  (try simp (disch := omega) only [i32_id] at *)
  first | done | omega | ((repeat' (with_reducible apply And.intro)) <;> first | assumption | rfl | omega | (exact hI.1) | (intro e9; rw [hI.2.2.2.1, show x4 = s.2 6 2 by omega]) | (intro e9; exact isNth_no (by rw [show (s.2 6 2).toNat = x4.toNat by omega]; omega)) | (intro e9; omega) | (intro e9; exact isNth_y hI.2.2.1.1 (by omega) (by assumption) (by omega)) | (have h9 := many_t (p := fun y => s.2 13 y = a1) (k := x4) (by omega) (by assumption); omega) | (have h9 := many_f (p := fun y => s.2 13 y = a1) (k := x4) (by omega) (by assumption); omega) | (have h9 : many (fun y => s.2 13 y = a1) (0 : Int).toNat = 0 := rfl; omega) | grind [upI])
theorem vX3_fromOf_6 (s : MS) (a1 : Int) (a2 : Int) (hp : tOK (s.2 6) ∧ -1 ≤ a2) (x1 : Int) (x2 : Int) (x3 : Int) (x4 : Int) (hI : x1 = a1 ∧ x2 = a2 ∧ (0 ≤ x4 ∧ x4 ≤ s.2 6 2) ∧ x3 = many (fun y => s.2 13 y = a1) x4.toNat ∧ (0 ≤ a2 → x3 ≤ a2)) (c_1 : ¬ (s.2 6 2) ≤ x4) (o_3 : (0 ≤ x4 ∧ x4 < 10000)) (c_4 : (s.2 13 x4) = x1) (c_5 : x3 = x2) : ((a2 = -1 → x4 = many (fun y => (s.2 13) y = a1) ((s.2 6) 2).toNat) ∧ (a2 ≠ -1 → isNth (fun y => (s.2 13) y = a1) ((s.2 6) 2) a2 x4)) := by
  obtain ⟨ht, hi⟩ := hp
  have hN := tOK_N ht
  (try have hb := many_b (fun y => s.2 13 y = a1) x4.toNat)
  (try rw [hI.1] at *)
  (try unfold lex3)
  (try simp only [bI_0, bI_n, Classical.not_not] at *)
  (try simp (disch := omega) only [i32_id] at *)
  first | done | omega | ((repeat' (with_reducible apply And.intro)) <;> first | assumption | rfl | omega | (exact hI.1) | (intro e9; rw [hI.2.2.2.1, show x4 = s.2 6 2 by omega]) | (intro e9; exact isNth_no (by rw [show (s.2 6 2).toNat = x4.toNat by omega]; omega)) | (intro e9; omega) | (intro e9; exact isNth_y hI.2.2.1.1 (by omega) (by assumption) (by omega)) | (have h9 := many_t (p := fun y => s.2 13 y = a1) (k := x4) (by omega) (by assumption); omega) | (have h9 := many_f (p := fun y => s.2 13 y = a1) (k := x4) (by omega) (by assumption); omega) | (have h9 : many (fun y => s.2 13 y = a1) (0 : Int).toNat = 0 := rfl; omega) | grind [upI])
theorem vX3_fromOf_7 (s : MS) (a1 : Int) (a2 : Int) (hp : tOK (s.2 6) ∧ -1 ≤ a2) (x1 : Int) (x2 : Int) (x3 : Int) (x4 : Int) (hI : x1 = a1 ∧ x2 = a2 ∧ (0 ≤ x4 ∧ x4 ≤ s.2 6 2) ∧ x3 = many (fun y => s.2 13 y = a1) x4.toNat ∧ (0 ≤ a2 → x3 ≤ a2)) (c_1 : ¬ (s.2 6 2) ≤ x4) (o_3 : (0 ≤ x4 ∧ x4 < 10000)) (c_4 : ¬ (s.2 13 x4) = x1) : x1 = a1 ∧ x2 = a2 ∧ (0 ≤ (i32 (x4 + 1)) ∧ (i32 (x4 + 1)) ≤ s.2 6 2) ∧ x3 = many (fun y => s.2 13 y = a1) (i32 (x4 + 1)).toNat ∧ (0 ≤ a2 → x3 ≤ a2) := by
  obtain ⟨ht, hi⟩ := hp
  have hN := tOK_N ht
  (try have hb := many_b (fun y => s.2 13 y = a1) x4.toNat)
  (try rw [hI.1] at *)
  (try unfold lex3)
  (try simp only [bI_0, bI_n, Classical.not_not] at *)
  (try simp (disch := omega) only [i32_id] at *)
  first | done | omega | ((repeat' (with_reducible apply And.intro)) <;> first | assumption | rfl | omega | (exact hI.1) | (intro e9; rw [hI.2.2.2.1, show x4 = s.2 6 2 by omega]) | (intro e9; exact isNth_no (by rw [show (s.2 6 2).toNat = x4.toNat by omega]; omega)) | (intro e9; omega) | (intro e9; exact isNth_y hI.2.2.1.1 (by omega) (by assumption) (by omega)) | (have h9 := many_t (p := fun y => s.2 13 y = a1) (k := x4) (by omega) (by assumption); omega) | (have h9 := many_f (p := fun y => s.2 13 y = a1) (k := x4) (by omega) (by assumption); omega) | (have h9 : many (fun y => s.2 13 y = a1) (0 : Int).toNat = 0 := rfl; omega) | grind [upI])
theorem vX3_fromOf_8 (s : MS) (a1 : Int) (a2 : Int) (hp : tOK (s.2 6) ∧ -1 ≤ a2) (x1 : Int) (x2 : Int) (x3 : Int) (x4 : Int) (hI : x1 = a1 ∧ x2 = a2 ∧ (0 ≤ x4 ∧ x4 ≤ s.2 6 2) ∧ x3 = many (fun y => s.2 13 y = a1) x4.toNat ∧ (0 ≤ a2 → x3 ≤ a2)) (c_1 : ¬ (s.2 6 2) ≤ x4) (o_3 : (0 ≤ x4 ∧ x4 < 10000)) (c_4 : ¬ (s.2 13 x4) = x1) : lex3 0 0 ((s.2 6 2 - (i32 (x4 + 1))).toNat) 0 0 ((s.2 6 2 - x4).toNat) := by
  obtain ⟨ht, hi⟩ := hp
  have hN := tOK_N ht
  (try have hb := many_b (fun y => s.2 13 y = a1) x4.toNat)
  (try rw [hI.1] at *)
  (try unfold lex3)
  (try simp only [bI_0, bI_n, Classical.not_not] at *)
  (try simp (disch := omega) only [i32_id] at *)
  first | done | omega | ((repeat' (with_reducible apply And.intro)) <;> first | assumption | rfl | omega | (exact hI.1) | (intro e9; rw [hI.2.2.2.1, show x4 = s.2 6 2 by omega]) | (intro e9; exact isNth_no (by rw [show (s.2 6 2).toNat = x4.toNat by omega]; omega)) | (intro e9; omega) | (intro e9; exact isNth_y hI.2.2.1.1 (by omega) (by assumption) (by omega)) | (have h9 := many_t (p := fun y => s.2 13 y = a1) (k := x4) (by omega) (by assumption); omega) | (have h9 := many_f (p := fun y => s.2 13 y = a1) (k := x4) (by omega) (by assumption); omega) | (have h9 : many (fun y => s.2 13 y = a1) (0 : Int).toNat = 0 := rfl; omega) | grind [upI])
theorem vX3_fromOf_9 (s : MS) (a1 : Int) (a2 : Int) (hp : tOK (s.2 6) ∧ -1 ≤ a2) : a1 = a1 ∧ a2 = a2 ∧ (0 ≤ (0 : Int) ∧ (0 : Int) ≤ s.2 6 2) ∧ (0 : Int) = many (fun y => s.2 13 y = a1) (0 : Int).toNat ∧ (0 ≤ a2 → (0 : Int) ≤ a2) := by
  obtain ⟨ht, hi⟩ := hp
  have hN := tOK_N ht
  (try have hb := many_b (fun y => s.2 13 y = a1) x4.toNat)
  (try rw [hI.1] at *)
  (try unfold lex3)
  (try simp only [bI_0, bI_n, Classical.not_not] at *)
  (try simp (disch := omega) only [i32_id] at *)
  first | done | omega | ((repeat' (with_reducible apply And.intro)) <;> first | assumption | rfl | omega | (exact hI.1) | (intro e9; rw [hI.2.2.2.1, show x4 = s.2 6 2 by omega]) | (intro e9; exact isNth_no (by rw [show (s.2 6 2).toNat = x4.toNat by omega]; omega)) | (intro e9; omega) | (intro e9; exact isNth_y hI.2.2.1.1 (by omega) (by assumption) (by omega)) | (have h9 := many_t (p := fun y => s.2 13 y = a1) (k := x4) (by omega) (by assumption); omega) | (have h9 := many_f (p := fun y => s.2 13 y = a1) (k := x4) (by omega) (by assumption); omega) | (have h9 : many (fun y => s.2 13 y = a1) (0 : Int).toNat = 0 := rfl; omega) | grind [upI])
theorem allX3_fromOf (b : AH) (s : MS) (a1 : Int) (a2 : Int) (hp : tOK (s.2 6) ∧ -1 ≤ a2) : ∀ m1 m2 m3 : Nat, (∀ (x1 : Int) (x2 : Int) (x3 : Int) (x4 : Int), m1 = 0 → m2 = 0 → m3 = ((s.2 6 2 - x4).toNat) → (x1 = a1 ∧ x2 = a2 ∧ (0 ≤ x4 ∧ x4 ≤ s.2 6 2) ∧ x3 = many (fun y => s.2 13 y = a1) x4.toNat ∧ (0 ≤ a2 → x3 ≤ a2)) → HX3_fromOf_5 (QX3_fromOf s a1 a2) b s x1 x2 x3 x4) := by
  refine lex3_ind ?_
  intro m1 m2 m3 ih
  rintro x1 x2 x3 x4 rfl rfl rfl hI
  refine bX3_fromOf_5 b s x1 x2 x3 x4 ?_
  refine ⟨fun c_1 => ?_, fun c_1 => ?_⟩
  · refine ⟨fun c_2 => ?_, fun c_2 => ?_⟩
    · exact ⟨(-1), rfl, rfl, (vX3_fromOf_1 s a1 a2 hp x1 x2 x3 x4 hI c_1 c_2)⟩
    · exact ⟨x3, rfl, rfl, (vX3_fromOf_2 s a1 a2 hp x1 x2 x3 x4 hI c_1 c_2)⟩
  · have o_3 : (0 ≤ x4 ∧ x4 < 10000) := (vX3_fromOf_3 s a1 a2 hp x1 x2 x3 x4 hI c_1)
    refine ⟨o_3, ?_⟩
    refine ⟨fun c_4 => ?_, fun c_4 => ?_⟩
    · refine ⟨fun c_5 => ?_, fun c_5 => ?_⟩
      · exact (ih _ _ _ (vX3_fromOf_5 s a1 a2 hp x1 x2 x3 x4 hI c_1 o_3 c_4 c_5)) x1 x2 (i32 (x3 + 1)) (i32 (x4 + 1)) rfl rfl rfl (vX3_fromOf_4 s a1 a2 hp x1 x2 x3 x4 hI c_1 o_3 c_4 c_5)
      · exact ⟨x4, rfl, rfl, (vX3_fromOf_6 s a1 a2 hp x1 x2 x3 x4 hI c_1 o_3 c_4 c_5)⟩
    · exact (ih _ _ _ (vX3_fromOf_8 s a1 a2 hp x1 x2 x3 x4 hI c_1 o_3 c_4)) x1 x2 x3 (i32 (x4 + 1)) rfl rfl rfl (vX3_fromOf_7 s a1 a2 hp x1 x2 x3 x4 hI c_1 o_3 c_4)
theorem ctX3_fromOf (b : AH) (s : MS) (a1 : Int) (a2 : Int) (hp : tOK (s.2 6) ∧ -1 ≤ a2) : MC mX3_fromOf 1 b s [vI a1, vI a2] (QX3_fromOf s a1 a2) := by
  refine MC.of (by decide) rfl (Nat.le_of_ble_eq_true rfl) ?_
  refine bX3_fromOf_0 b s a1 a2 ?_
  exact (allX3_fromOf b s a1 a2 hp _ _ _) a1 a2 0 0 rfl rfl rfl (vX3_fromOf_9 s a1 a2 hp)
def HX3_from_0 (Q : Option AV → MS → Prop) (b : AH) (s : MS) (x1 : Int) (x2 : Int) (f11 : Int → Int) (f12 : Int → Int) (f13 : Int → Int) (f14 : Int → Int) (f15 : Int → Int) (f16 : Int → Int) (f17 : Int → Int) (f18 : Int → Int) (f19 : Int → Int) (k0 : Int) (k25 : Int) (k33 : Int) (k34 : Int) : Prop := MW mX3_from 8 Q b 0 [(0, vR 351), (1, vI x1), (2, vI x2)] [] (sS (sS (sS (sS (sA (sA (sA (sA (sA (sA (sA (sA (sA s 11 f11) 12 f12) 13 f13) 14 f14) 15 f15) 16 f16) 17 f17) 18 f18) 19 f19) 0 k0) 25 k25) 33 k33) 34 k34)
theorem bX3_from_0 {Q : Option AV → MS → Prop} (b : AH) (s : MS) (x1 : Int) (x2 : Int) (f11 : Int → Int) (f12 : Int → Int) (f13 : Int → Int) (f14 : Int → Int) (f15 : Int → Int) (f16 : Int → Int) (f17 : Int → Int) (f18 : Int → Int) (f19 : Int → Int) (k0 : Int) (k25 : Int) (k33 : Int) (k34 : Int) (K : (tOK (s.2 6)) ∧ (((bI (0 ≤ x1 ∧ x1 < (s.2 6) 2)) = 0 → Q (some (vI (-2))) (sS (sS (sS (sS (sA (sA (sA (sA (sA (sA (sA (sA (sA s 11 f11) 12 f12) 13 f13) 14 f14) 15 f15) 16 f16) 17 f17) 18 f18) 19 f19) 0 0) 25 k25) 33 k33) 34 k34)) ∧ (¬ (bI (0 ≤ x1 ∧ x1 < (s.2 6) 2)) = 0 → ((-1) ≤ x2 → (tOK (s.2 6) ∧ aOK (s.2 6) (s.2 7)) ∧ ((∀ (f_6 : Int → Int) (f_7 : Int → Int) (f_8 : Int → Int) (k_9 : Int), (NXO (s.2 6) (s.2 7) f_8) → (tOK (s.2 6) ∧ -1 ≤ x2) ∧ ((∀ (r_12 : Int), (((x2 = -1 → r_12 = many (fun y => f_8 y = x1) ((s.2 6) 2).toNat) ∧ (x2 ≠ -1 → isNth (fun y => f_8 y = x1) ((s.2 6) 2) x2 r_12))) → Q (some (vI r_12)) (sS (sS (sS (sS (sA (sA (sA (sA (sA (sA (sA (sA (sA s 11 f_6) 12 f_7) 13 f_8) 14 f14) 15 f15) 16 f16) 17 f17) 18 f18) 19 f19) 0 0) 25 k_9) 33 k33) 34 k34)))))) ∧ (¬ (-1) ≤ x2 → Q (some (vI (-2))) (sS (sS (sS (sS (sA (sA (sA (sA (sA (sA (sA (sA (sA s 11 f11) 12 f12) 13 f13) 14 f14) 15 f15) 16 f16) 17 f17) 18 f18) 19 f19) 0 0) 25 k25) 33 k33) 34 k34))))) : HX3_from_0 Q b s x1 x2 f11 f12 f13 f14 f15 f16 f17 f18 f19 k0 k25 k33 k34 := by
  refine JW.aload_n dX3_from_0 rfl ?_
  refine JW.iconst dX3_from_1 rfl ?_
  refine JW.mputI dX3_from_2 (pX3_77 _) rfl ?_
  refine JW.steq (s2 := sS (sS (sS (sS (sA (sA (sA (sA (sA (sA (sA (sA (sA s 11 f11) 12 f12) 13 f13) 14 f14) 15 f15) 16 f16) 17 f17) 18 f18) 19 f19) 0 0) 25 k25) 33 k33) 34 k34) (by simp only [sA_A, sS_S, sA_S, sA_lt, sS_lt, Nat.reduceLT, id_eq] <;> rfl) ?_
  refine JW.aload_n dX3_from_5 rfl ?_
  refine JW.iload_n dX3_from_6 rfl ?_
  refine JW.i2l dX3_from_7 ?_
  obtain ⟨o_1, K⟩ := K
  refine JW.mcall (As := [vL x1]) dX3_from_8 vX3_isNumber rfl q1806 (ctX3_isNumber b (sS (sS (sS (sS (sA (sA (sA (sA (sA (sA (sA (sA (sA s 11 f11) 12 f12) 13 f13) 14 f14) 15 f15) 16 f16) 17 f17) 18 f18) 19 f19) 0 0) 25 k25) 33 k33) 34 k34) x1 o_1) (Nat.le_of_ble_eq_true rfl) rfl (Nat.le_of_ble_eq_true rfl) ?_
  rintro _ _ ⟨rfl, eq_2⟩
  refine JW.steq (s2 := sS (sS (sS (sS (sA (sA (sA (sA (sA (sA (sA (sA (sA s 11 f11) 12 f12) 13 f13) 14 f14) 15 f15) 16 f16) 17 f17) 18 f18) 19 f19) 0 0) 25 k25) 33 k33) 34 k34) eq_2 ?_
  refine JW.if_eq (tgt := 19) dX3_from_11 rfl (fun c_3 => ?_) (fun c_3 => ?_)
  · have K := K.1 c_3
    refine JW.bipush dX3_from_19 rfl ?_
    exact JW.ireturn dX3_from_21 rfl rfl ⟨_, rfl, K⟩
  · have K := K.2 c_3
    refine JW.iload_n dX3_from_14 rfl ?_
    refine JW.iconst dX3_from_15 rfl ?_
    refine JW.icmp_ge (tgt := 22) dX3_from_16 rfl (fun c_4 => ?_) (fun c_4 => ?_)
    · have K := K.1 c_4
      refine JW.aload_n dX3_from_22 rfl ?_
      obtain ⟨o_5, K⟩ := K
      refine JW.mcall (As := []) dX3_from_23 vX3_lays rfl q1867 (ctX3_lays b (sS (sS (sS (sS (sA (sA (sA (sA (sA (sA (sA (sA (sA s 11 f11) 12 f12) 13 f13) 14 f14) 15 f15) 16 f16) 17 f17) 18 f18) 19 f19) 0 0) 25 k25) 33 k33) 34 k34) o_5) (Nat.le_of_ble_eq_true rfl) rfl (Nat.le_of_ble_eq_true rfl) ?_
      rintro _ _ ⟨f_6, f_7, f_8, k_9, rfl, rfl, q_10⟩
      refine JW.steq (s2 := sS (sS (sS (sS (sA (sA (sA (sA (sA (sA (sA (sA (sA s 11 f_6) 12 f_7) 13 f_8) 14 f14) 15 f15) 16 f16) 17 f17) 18 f18) 19 f19) 0 0) 25 k_9) 33 k33) 34 k34) (by simp only [sA_A, sS_S, sA_S, sA_lt, sS_lt, Nat.reduceLT, id_eq] <;> rfl) ?_
      replace K := K f_6 f_7 f_8 k_9 q_10
      refine JW.aload_n dX3_from_26 rfl ?_
      refine JW.iload_n dX3_from_27 rfl ?_
      refine JW.iload_n dX3_from_28 rfl ?_
      obtain ⟨o_11, K⟩ := K
      refine JW.mcall (As := [vI x1, vI x2]) dX3_from_29 vX3_fromOf rfl q1952 (ctX3_fromOf b (sS (sS (sS (sS (sA (sA (sA (sA (sA (sA (sA (sA (sA s 11 f_6) 12 f_7) 13 f_8) 14 f14) 15 f15) 16 f16) 17 f17) 18 f18) 19 f19) 0 0) 25 k_9) 33 k33) 34 k34) x1 x2 o_11) (Nat.le_of_ble_eq_true rfl) rfl (Nat.le_of_ble_eq_true rfl) ?_
      rintro _ _ ⟨r_12, rfl, eq_13, q_13⟩
      refine JW.steq (s2 := sS (sS (sS (sS (sA (sA (sA (sA (sA (sA (sA (sA (sA s 11 f_6) 12 f_7) 13 f_8) 14 f14) 15 f15) 16 f16) 17 f17) 18 f18) 19 f19) 0 0) 25 k_9) 33 k33) 34 k34) eq_13 ?_
      replace K := K r_12 q_13
      exact JW.ireturn dX3_from_32 rfl rfl ⟨_, rfl, K⟩
    · have K := K.2 c_4
      refine JW.bipush dX3_from_19 rfl ?_
      exact JW.ireturn dX3_from_21 rfl rfl ⟨_, rfl, K⟩
def QX3_from (s : MS) (a1 : Int) (a2 : Int) : Option AV → MS → Prop := fun v s' => ∃ (f11 : Int → Int) (f12 : Int → Int) (f13 : Int → Int) (f14 : Int → Int) (f15 : Int → Int) (f16 : Int → Int) (f17 : Int → Int) (f18 : Int → Int) (f19 : Int → Int) (k25 : Int) (k33 : Int) (k34 : Int), v = some (vI (rFrom (s.2 6) (s.2 7) a1 a2)) ∧ s' = sS (sS (sS (sS (sA (sA (sA (sA (sA (sA (sA (sA (sA s 11 f11) 12 f12) 13 f13) 14 f14) 15 f15) 16 f16) 17 f17) 18 f18) 19 f19) 0 (0)) 25 k25) 33 k33) 34 k34
theorem vX3_from_1 (s : MS) (a1 : Int) (a2 : Int) (hp : tOK (s.2 6) ∧ aOK (s.2 6) (s.2 7)) : (tOK (s.2 6)) := by
  obtain ⟨ht, ha⟩ := hp
  have hN := tOK_N ht
  have hg := nx_rng (s.2 6) (s.2 7)
  (try simp only [bI_0, bI_n, Classical.not_not] at *)
  (try have hq := ‹NXO (s.2 6) (s.2 7) _›)
  (try have hq := hI.2.1)
  (try unfold lex3)
  (try simp only [bI_0, bI_n, Classical.not_not] at *)
  (try simp (disch := omega) only [i32_id] at *)
  first | done | omega | ((repeat' (with_reducible apply And.intro)) <;> first | assumption | rfl | omega | (unfold rFrom; rw [if_neg (by omega)]) | (unfold rFrom; by_cases e9 : a2 = -1; (focus (rw [if_pos (by omega), if_pos e9, q_13.1 e9]; exact many_c _ (fun i h0 h1 => by rw [hq i h0 (by omega)]))); (focus (rw [if_pos (by omega), if_neg e9]; exact nth_eq (isNth_c (fun z h0 h1 => by rw [hq z h0 h1]) (q_13.2 e9))))) | grind [upI])
theorem vX3_from_2 (s : MS) (a1 : Int) (a2 : Int) (hp : tOK (s.2 6) ∧ aOK (s.2 6) (s.2 7)) (o_1 : (tOK (s.2 6))) (c_3 : (bI (0 ≤ a1 ∧ a1 < (s.2 6) 2)) = 0) : (-2) = (rFrom (s.2 6) (s.2 7) a1 a2) := by
  obtain ⟨ht, ha⟩ := hp
  have hN := tOK_N ht
  have hg := nx_rng (s.2 6) (s.2 7)
  (try simp only [bI_0, bI_n, Classical.not_not] at *)
  (try have hq := ‹NXO (s.2 6) (s.2 7) _›)
  (try have hq := hI.2.1)
  (try unfold lex3)
  (try simp only [bI_0, bI_n, Classical.not_not] at *)
  (try simp (disch := omega) only [i32_id] at *)
  first | done | omega | ((repeat' (with_reducible apply And.intro)) <;> first | assumption | rfl | omega | (unfold rFrom; rw [if_neg (by omega)]) | (unfold rFrom; by_cases e9 : a2 = -1; (focus (rw [if_pos (by omega), if_pos e9, q_13.1 e9]; exact many_c _ (fun i h0 h1 => by rw [hq i h0 (by omega)]))); (focus (rw [if_pos (by omega), if_neg e9]; exact nth_eq (isNth_c (fun z h0 h1 => by rw [hq z h0 h1]) (q_13.2 e9))))) | grind [upI])
theorem vX3_from_3 (s : MS) (a1 : Int) (a2 : Int) (hp : tOK (s.2 6) ∧ aOK (s.2 6) (s.2 7)) (o_1 : (tOK (s.2 6))) (c_3 : ¬ (bI (0 ≤ a1 ∧ a1 < (s.2 6) 2)) = 0) (c_4 : (-1) ≤ a2) : (tOK (s.2 6) ∧ aOK (s.2 6) (s.2 7)) := by
  obtain ⟨ht, ha⟩ := hp
  have hN := tOK_N ht
  have hg := nx_rng (s.2 6) (s.2 7)
  (try simp only [bI_0, bI_n, Classical.not_not] at *)
  (try have hq := ‹NXO (s.2 6) (s.2 7) _›)
  (try have hq := hI.2.1)
  (try unfold lex3)
  (try simp only [bI_0, bI_n, Classical.not_not] at *)
  (try simp (disch := omega) only [i32_id] at *)
  first | done | omega | ((repeat' (with_reducible apply And.intro)) <;> first | assumption | rfl | omega | (unfold rFrom; rw [if_neg (by omega)]) | (unfold rFrom; by_cases e9 : a2 = -1; (focus (rw [if_pos (by omega), if_pos e9, q_13.1 e9]; exact many_c _ (fun i h0 h1 => by rw [hq i h0 (by omega)]))); (focus (rw [if_pos (by omega), if_neg e9]; exact nth_eq (isNth_c (fun z h0 h1 => by rw [hq z h0 h1]) (q_13.2 e9))))) | grind [upI])
theorem vX3_from_4 (s : MS) (a1 : Int) (a2 : Int) (hp : tOK (s.2 6) ∧ aOK (s.2 6) (s.2 7)) (o_1 : (tOK (s.2 6))) (c_3 : ¬ (bI (0 ≤ a1 ∧ a1 < (s.2 6) 2)) = 0) (c_4 : (-1) ≤ a2) (o_5 : (tOK (s.2 6) ∧ aOK (s.2 6) (s.2 7))) (f_6 : Int → Int) (f_7 : Int → Int) (f_8 : Int → Int) (k_9 : Int) (q_10 : (NXO (s.2 6) (s.2 7) f_8)) : (tOK (s.2 6) ∧ -1 ≤ a2) := by
  obtain ⟨ht, ha⟩ := hp
  have hN := tOK_N ht
  have hg := nx_rng (s.2 6) (s.2 7)
  (try simp only [bI_0, bI_n, Classical.not_not] at *)
  (try have hq := ‹NXO (s.2 6) (s.2 7) _›)
  (try have hq := hI.2.1)
  (try unfold lex3)
  (try simp only [bI_0, bI_n, Classical.not_not] at *)
  (try simp (disch := omega) only [i32_id] at *)
  first | done | omega | ((repeat' (with_reducible apply And.intro)) <;> first | assumption | rfl | omega | (unfold rFrom; rw [if_neg (by omega)]) | (unfold rFrom; by_cases e9 : a2 = -1; (focus (rw [if_pos (by omega), if_pos e9, q_13.1 e9]; exact many_c _ (fun i h0 h1 => by rw [hq i h0 (by omega)]))); (focus (rw [if_pos (by omega), if_neg e9]; exact nth_eq (isNth_c (fun z h0 h1 => by rw [hq z h0 h1]) (q_13.2 e9))))) | grind [upI])
theorem vX3_from_5 (s : MS) (a1 : Int) (a2 : Int) (hp : tOK (s.2 6) ∧ aOK (s.2 6) (s.2 7)) (o_1 : (tOK (s.2 6))) (c_3 : ¬ (bI (0 ≤ a1 ∧ a1 < (s.2 6) 2)) = 0) (c_4 : (-1) ≤ a2) (o_5 : (tOK (s.2 6) ∧ aOK (s.2 6) (s.2 7))) (f_6 : Int → Int) (f_7 : Int → Int) (f_8 : Int → Int) (k_9 : Int) (q_10 : (NXO (s.2 6) (s.2 7) f_8)) (o_11 : (tOK (s.2 6) ∧ -1 ≤ a2)) (r_12 : Int) (q_13 : (((a2 = -1 → r_12 = many (fun y => f_8 y = a1) ((s.2 6) 2).toNat) ∧ (a2 ≠ -1 → isNth (fun y => f_8 y = a1) ((s.2 6) 2) a2 r_12)))) : r_12 = (rFrom (s.2 6) (s.2 7) a1 a2) := by
  obtain ⟨ht, ha⟩ := hp
  have hN := tOK_N ht
  have hg := nx_rng (s.2 6) (s.2 7)
  (try simp only [bI_0, bI_n, Classical.not_not] at *)
  (try have hq := ‹NXO (s.2 6) (s.2 7) _›)
  (try have hq := hI.2.1)
  (try unfold lex3)
  (try simp only [bI_0, bI_n, Classical.not_not] at *)
  (try simp (disch := omega) only [i32_id] at *)
  first | done | omega | ((repeat' (with_reducible apply And.intro)) <;> first | assumption | rfl | omega | (unfold rFrom; rw [if_neg (by omega)]) | (unfold rFrom; by_cases e9 : a2 = -1; (focus (rw [if_pos (by omega), if_pos e9, q_13.1 e9]; exact many_c _ (fun i h0 h1 => by rw [hq i h0 (by omega)]))); (focus (rw [if_pos (by omega), if_neg e9]; exact nth_eq (isNth_c (fun z h0 h1 => by rw [hq z h0 h1]) (q_13.2 e9))))) | grind [upI])
theorem vX3_from_6 (s : MS) (a1 : Int) (a2 : Int) (hp : tOK (s.2 6) ∧ aOK (s.2 6) (s.2 7)) (o_1 : (tOK (s.2 6))) (c_3 : ¬ (bI (0 ≤ a1 ∧ a1 < (s.2 6) 2)) = 0) (c_4 : ¬ (-1) ≤ a2) : (-2) = (rFrom (s.2 6) (s.2 7) a1 a2) := by
  obtain ⟨ht, ha⟩ := hp
  have hN := tOK_N ht
  have hg := nx_rng (s.2 6) (s.2 7)
  (try simp only [bI_0, bI_n, Classical.not_not] at *)
  (try have hq := ‹NXO (s.2 6) (s.2 7) _›)
  (try have hq := hI.2.1)
  (try unfold lex3)
  (try simp only [bI_0, bI_n, Classical.not_not] at *)
  (try simp (disch := omega) only [i32_id] at *)
  first | done | omega | ((repeat' (with_reducible apply And.intro)) <;> first | assumption | rfl | omega | (unfold rFrom; rw [if_neg (by omega)]) | (unfold rFrom; by_cases e9 : a2 = -1; (focus (rw [if_pos (by omega), if_pos e9, q_13.1 e9]; exact many_c _ (fun i h0 h1 => by rw [hq i h0 (by omega)]))); (focus (rw [if_pos (by omega), if_neg e9]; exact nth_eq (isNth_c (fun z h0 h1 => by rw [hq z h0 h1]) (q_13.2 e9))))) | grind [upI])
theorem ctX3_from (b : AH) (s : MS) (a1 : Int) (a2 : Int) (hp : tOK (s.2 6) ∧ aOK (s.2 6) (s.2 7)) : MC mX3_from 8 b s [vI a1, vI a2] (QX3_from s a1 a2) := by
  refine MC.of (by decide) rfl (Nat.le_of_ble_eq_true rfl) (JW.steq (s2 := sS (sS (sS (sS (sA (sA (sA (sA (sA (sA (sA (sA (sA s 11 (s.2 11)) 12 (s.2 12)) 13 (s.2 13)) 14 (s.2 14)) 15 (s.2 15)) 16 (s.2 16)) 17 (s.2 17)) 18 (s.2 18)) 19 (s.2 19)) 0 (s.1 0)) 25 (s.1 25)) 33 (s.1 33)) 34 (s.1 34)) (by simp only [sA_id, sS_id]) ?_)
  refine bX3_from_0 b s a1 a2 (s.2 11) (s.2 12) (s.2 13) (s.2 14) (s.2 15) (s.2 16) (s.2 17) (s.2 18) (s.2 19) (s.1 0) (s.1 25) (s.1 33) (s.1 34) ?_
  have o_1 : (tOK (s.2 6)) := (vX3_from_1 s a1 a2 hp)
  refine ⟨o_1, ?_⟩
  refine ⟨fun c_3 => ?_, fun c_3 => ?_⟩
  · exact ⟨(s.2 11), (s.2 12), (s.2 13), (s.2 14), (s.2 15), (s.2 16), (s.2 17), (s.2 18), (s.2 19), (s.1 25), (s.1 33), (s.1 34), (rI_c (vX3_from_2 s a1 a2 hp o_1 c_3)), rfl⟩
  · refine ⟨fun c_4 => ?_, fun c_4 => ?_⟩
    · have o_5 : (tOK (s.2 6) ∧ aOK (s.2 6) (s.2 7)) := (vX3_from_3 s a1 a2 hp o_1 c_3 c_4)
      refine ⟨o_5, ?_⟩
      intro f_6 f_7 f_8 k_9 q_10
      have o_11 : (tOK (s.2 6) ∧ -1 ≤ a2) := (vX3_from_4 s a1 a2 hp o_1 c_3 c_4 o_5 f_6 f_7 f_8 k_9 q_10)
      refine ⟨o_11, ?_⟩
      intro r_12 q_13
      exact ⟨f_6, f_7, f_8, (s.2 14), (s.2 15), (s.2 16), (s.2 17), (s.2 18), (s.2 19), k_9, (s.1 33), (s.1 34), (rI_c (vX3_from_5 s a1 a2 hp o_1 c_3 c_4 o_5 f_6 f_7 f_8 k_9 q_10 o_11 r_12 q_13)), rfl⟩
    · exact ⟨(s.2 11), (s.2 12), (s.2 13), (s.2 14), (s.2 15), (s.2 16), (s.2 17), (s.2 18), (s.2 19), (s.1 25), (s.1 33), (s.1 34), (rI_c (vX3_from_6 s a1 a2 hp o_1 c_3 c_4)), rfl⟩
def HX3_back_0 (Q : Option AV → MS → Prop) (b : AH) (s : MS) (x1 : Int) (x2 : Int) (f11 : Int → Int) (f12 : Int → Int) (f13 : Int → Int) (f14 : Int → Int) (f15 : Int → Int) (f16 : Int → Int) (f17 : Int → Int) (f18 : Int → Int) (f19 : Int → Int) (k0 : Int) (k25 : Int) (k33 : Int) (k34 : Int) : Prop := MW mX3_back 8 Q b 0 [(0, vR 351), (1, vI x1), (2, vI x2)] [] (sS (sS (sS (sS (sA (sA (sA (sA (sA (sA (sA (sA (sA s 11 f11) 12 f12) 13 f13) 14 f14) 15 f15) 16 f16) 17 f17) 18 f18) 19 f19) 0 k0) 25 k25) 33 k33) 34 k34)
def HX3_back_38 (Q : Option AV → MS → Prop) (b : AH) (s : MS) (x1 : Int) (x2 : Int) (x3 : Int) (x4 : Int) (f11 : Int → Int) (f12 : Int → Int) (f13 : Int → Int) (f14 : Int → Int) (f15 : Int → Int) (f16 : Int → Int) (f17 : Int → Int) (f18 : Int → Int) (f19 : Int → Int) (k0 : Int) (k25 : Int) (k33 : Int) (k34 : Int) : Prop := MW mX3_back 8 Q b 38 [(0, vR 351), (1, vI x1), (2, vI x2), (3, vI x3), (4, vI x4)] [] (sS (sS (sS (sS (sA (sA (sA (sA (sA (sA (sA (sA (sA s 11 f11) 12 f12) 13 f13) 14 f14) 15 f15) 16 f16) 17 f17) 18 f18) 19 f19) 0 k0) 25 k25) 33 k33) 34 k34)
def HX3_back_56 (Q : Option AV → MS → Prop) (b : AH) (s : MS) (x1 : Int) (x2 : Int) (x3 : Int) (x4 : Int) (x5 : Int) (x6 : Int) (f11 : Int → Int) (f12 : Int → Int) (f13 : Int → Int) (f14 : Int → Int) (f15 : Int → Int) (f16 : Int → Int) (f17 : Int → Int) (f18 : Int → Int) (f19 : Int → Int) (k0 : Int) (k25 : Int) (k33 : Int) (k34 : Int) : Prop := MW mX3_back 8 Q b 56 [(0, vR 351), (1, vI x1), (2, vI x2), (3, vI x3), (4, vI x4), (5, vI x5), (6, vI x6)] [] (sS (sS (sS (sS (sA (sA (sA (sA (sA (sA (sA (sA (sA s 11 f11) 12 f12) 13 f13) 14 f14) 15 f15) 16 f16) 17 f17) 18 f18) 19 f19) 0 k0) 25 k25) 33 k33) 34 k34)
theorem bX3_back_0 {Q : Option AV → MS → Prop} (b : AH) (s : MS) (x1 : Int) (x2 : Int) (f11 : Int → Int) (f12 : Int → Int) (f13 : Int → Int) (f14 : Int → Int) (f15 : Int → Int) (f16 : Int → Int) (f17 : Int → Int) (f18 : Int → Int) (f19 : Int → Int) (k0 : Int) (k25 : Int) (k33 : Int) (k34 : Int) (K : (tOK (s.2 6)) ∧ (((bI (0 ≤ x1 ∧ x1 < (s.2 6) 2)) = 0 → Q (some (vI (-2))) (sS (sS (sS (sS (sA (sA (sA (sA (sA (sA (sA (sA (sA s 11 f11) 12 f12) 13 f13) 14 f14) 15 f15) 16 f16) 17 f17) 18 f18) 19 f19) 0 0) 25 k25) 33 k33) 34 k34)) ∧ (¬ (bI (0 ≤ x1 ∧ x1 < (s.2 6) 2)) = 0 → (¬ (bI ((0 : Int) ≤ x2 ∧ x2 ≤ (200 : Int))) = 0 → (tOK (s.2 6) ∧ aOK (s.2 6) (s.2 7)) ∧ ((∀ (f_7 : Int → Int) (f_8 : Int → Int) (f_9 : Int → Int) (k_10 : Int), (NXO (s.2 6) (s.2 7) f_9) → HX3_back_38 Q b s x1 x2 0 0 f_7 f_8 f_9 f14 f15 f16 f17 f18 f19 0 k_10 k33 k34))) ∧ ((bI ((0 : Int) ≤ x2 ∧ x2 ≤ (200 : Int))) = 0 → Q (some (vI (-2))) (sS (sS (sS (sS (sA (sA (sA (sA (sA (sA (sA (sA (sA s 11 f11) 12 f12) 13 f13) 14 f14) 15 f15) 16 f16) 17 f17) 18 f18) 19 f19) 0 0) 25 k25) 33 k33) 34 k34))))) : HX3_back_0 Q b s x1 x2 f11 f12 f13 f14 f15 f16 f17 f18 f19 k0 k25 k33 k34 := by
  refine JW.aload_n dX3_back_0 rfl ?_
  refine JW.iconst dX3_back_1 rfl ?_
  refine JW.mputI dX3_back_2 (pX3_77 _) rfl ?_
  refine JW.steq (s2 := sS (sS (sS (sS (sA (sA (sA (sA (sA (sA (sA (sA (sA s 11 f11) 12 f12) 13 f13) 14 f14) 15 f15) 16 f16) 17 f17) 18 f18) 19 f19) 0 0) 25 k25) 33 k33) 34 k34) (by simp only [sA_A, sS_S, sA_S, sA_lt, sS_lt, Nat.reduceLT, id_eq] <;> rfl) ?_
  refine JW.aload_n dX3_back_5 rfl ?_
  refine JW.iload_n dX3_back_6 rfl ?_
  refine JW.i2l dX3_back_7 ?_
  obtain ⟨o_1, K⟩ := K
  refine JW.mcall (As := [vL x1]) dX3_back_8 vX3_isNumber rfl q1806 (ctX3_isNumber b (sS (sS (sS (sS (sA (sA (sA (sA (sA (sA (sA (sA (sA s 11 f11) 12 f12) 13 f13) 14 f14) 15 f15) 16 f16) 17 f17) 18 f18) 19 f19) 0 0) 25 k25) 33 k33) 34 k34) x1 o_1) (Nat.le_of_ble_eq_true rfl) rfl (Nat.le_of_ble_eq_true rfl) ?_
  rintro _ _ ⟨rfl, eq_2⟩
  refine JW.steq (s2 := sS (sS (sS (sS (sA (sA (sA (sA (sA (sA (sA (sA (sA s 11 f11) 12 f12) 13 f13) 14 f14) 15 f15) 16 f16) 17 f17) 18 f18) 19 f19) 0 0) 25 k25) 33 k33) 34 k34) eq_2 ?_
  refine JW.if_eq (tgt := 26) dX3_back_11 rfl (fun c_3 => ?_) (fun c_3 => ?_)
  · have K := K.1 c_3
    refine JW.bipush dX3_back_26 rfl ?_
    exact JW.ireturn dX3_back_28 rfl rfl ⟨_, rfl, K⟩
  · have K := K.2 c_3
    refine JW.iload_n dX3_back_14 rfl ?_
    refine JW.i2l dX3_back_15 ?_
    refine JW.lconst (x := 0) dX3_back_16 rfl ?_
    refine JW.ldc2 (x := 200) dX3_back_17 q1960 rfl ?_
    refine JW.mcallS (As := [vL x2, vL 0, vL 200]) dX3_back_20 vX3_in q1632 (ctX3_in b (sS (sS (sS (sS (sA (sA (sA (sA (sA (sA (sA (sA (sA s 11 f11) 12 f12) 13 f13) 14 f14) 15 f15) 16 f16) 17 f17) 18 f18) 19 f19) 0 0) 25 k25) 33 k33) 34 k34) x2 0 200) (Nat.le_of_ble_eq_true rfl) rfl (Nat.le_of_ble_eq_true rfl) ?_
    rintro _ _ ⟨rfl, eq_4⟩
    refine JW.steq (s2 := sS (sS (sS (sS (sA (sA (sA (sA (sA (sA (sA (sA (sA s 11 f11) 12 f12) 13 f13) 14 f14) 15 f15) 16 f16) 17 f17) 18 f18) 19 f19) 0 0) 25 k25) 33 k33) 34 k34) eq_4 ?_
    refine JW.if_ne (tgt := 29) dX3_back_23 rfl (fun c_5 => ?_) (fun c_5 => ?_)
    · have K := K.1 c_5
      refine JW.aload_n dX3_back_29 rfl ?_
      obtain ⟨o_6, K⟩ := K
      refine JW.mcall (As := []) dX3_back_30 vX3_lays rfl q1867 (ctX3_lays b (sS (sS (sS (sS (sA (sA (sA (sA (sA (sA (sA (sA (sA s 11 f11) 12 f12) 13 f13) 14 f14) 15 f15) 16 f16) 17 f17) 18 f18) 19 f19) 0 0) 25 k25) 33 k33) 34 k34) o_6) (Nat.le_of_ble_eq_true rfl) rfl (Nat.le_of_ble_eq_true rfl) ?_
      rintro _ _ ⟨f_7, f_8, f_9, k_10, rfl, rfl, q_11⟩
      refine JW.steq (s2 := sS (sS (sS (sS (sA (sA (sA (sA (sA (sA (sA (sA (sA s 11 f_7) 12 f_8) 13 f_9) 14 f14) 15 f15) 16 f16) 17 f17) 18 f18) 19 f19) 0 0) 25 k_10) 33 k33) 34 k34) (by simp only [sA_A, sS_S, sA_S, sA_lt, sS_lt, Nat.reduceLT, id_eq] <;> rfl) ?_
      replace K := K f_7 f_8 f_9 k_10 q_11
      refine JW.iconst dX3_back_33 rfl ?_
      refine JW.istore_n (ls' := [(0, vR 351), (1, vI x1), (2, vI x2), (3, vI 0)]) dX3_back_34 (Nat.le_of_ble_eq_true rfl) rfl ?_
      refine JW.iconst dX3_back_35 rfl ?_
      refine JW.istore (ls' := [(0, vR 351), (1, vI x1), (2, vI x2), (3, vI 0), (4, vI 0)]) dX3_back_36 (Nat.le_of_ble_eq_true rfl) rfl ?_
      exact JW.pick [0, 1, 2, 3, 4] rfl K
    · have K := K.2 c_5
      refine JW.bipush dX3_back_26 rfl ?_
      exact JW.ireturn dX3_back_28 rfl rfl ⟨_, rfl, K⟩
theorem bX3_back_38 {Q : Option AV → MS → Prop} (b : AH) (s : MS) (x1 : Int) (x2 : Int) (x3 : Int) (x4 : Int) (f11 : Int → Int) (f12 : Int → Int) (f13 : Int → Int) (f14 : Int → Int) (f15 : Int → Int) (f16 : Int → Int) (f17 : Int → Int) (f18 : Int → Int) (f19 : Int → Int) (k0 : Int) (k25 : Int) (k33 : Int) (k34 : Int) (K : ((s.2 6 2) ≤ x4 → Q (some (vI x3)) (sS (sS (sS (sS (sA (sA (sA (sA (sA (sA (sA (sA (sA s 11 f11) 12 f12) 13 f13) 14 f14) 15 f15) 16 f16) 17 f17) 18 f18) 19 f19) 0 k0) 25 k25) 33 k33) 34 k34)) ∧ (¬ (s.2 6 2) ≤ x4 → HX3_back_56 Q b s x1 x2 x3 x4 x4 0 f11 f12 f13 f14 f15 f16 f17 f18 f19 k0 k25 k33 k34)) : HX3_back_38 Q b s x1 x2 x3 x4 f11 f12 f13 f14 f15 f16 f17 f18 f19 k0 k25 k33 k34 := by
  refine JW.iload dX3_back_38 rfl ?_
  refine JW.aload_n dX3_back_40 rfl ?_
  refine JW.mget (v := vR 358) dX3_back_41 fX3_34 rfl ?_
  refine JW.iconst dX3_back_44 rfl ?_
  refine JW.mald 6 (x := (s.2 6 2)) dX3_back_45 (Nat.le_of_ble_eq_true rfl) rfl (by decide) (by decide) rfl ?_
  refine JW.icmp_ge (tgt := 109) dX3_back_46 rfl (fun c_1 => ?_) (fun c_1 => ?_)
  · have K := K.1 c_1
    refine JW.iload_n dX3_back_109 rfl ?_
    exact JW.ireturn dX3_back_110 rfl rfl ⟨_, rfl, K⟩
  · have K := K.2 c_1
    refine JW.iload dX3_back_49 rfl ?_
    refine JW.istore (ls' := [(0, vR 351), (1, vI x1), (2, vI x2), (3, vI x3), (4, vI x4), (5, vI x4)]) dX3_back_51 (Nat.le_of_ble_eq_true rfl) rfl ?_
    refine JW.iconst dX3_back_53 rfl ?_
    refine JW.istore (ls' := [(0, vR 351), (1, vI x1), (2, vI x2), (3, vI x3), (4, vI x4), (5, vI x4), (6, vI 0)]) dX3_back_54 (Nat.le_of_ble_eq_true rfl) rfl ?_
    exact JW.pick [0, 1, 2, 3, 4, 5, 6] rfl K
theorem bX3_back_56 {Q : Option AV → MS → Prop} (b : AH) (s : MS) (x1 : Int) (x2 : Int) (x3 : Int) (x4 : Int) (x5 : Int) (x6 : Int) (f11 : Int → Int) (f12 : Int → Int) (f13 : Int → Int) (f14 : Int → Int) (f15 : Int → Int) (f16 : Int → Int) (f17 : Int → Int) (f18 : Int → Int) (f19 : Int → Int) (k0 : Int) (k25 : Int) (k33 : Int) (k34 : Int) (K : (x5 = x1 → (¬ x5 = x1 → HX3_back_38 Q b s x1 x2 (i32 (x3 + 0)) (i32 (x4 + 1)) f11 f12 f13 f14 f15 f16 f17 f18 f19 k0 k25 k33 k34) ∧ (x5 = x1 → (¬ x6 = x2 → HX3_back_38 Q b s x1 x2 (i32 (x3 + 0)) (i32 (x4 + 1)) f11 f12 f13 f14 f15 f16 f17 f18 f19 k0 k25 k33 k34) ∧ (x6 = x2 → HX3_back_38 Q b s x1 x2 (i32 (x3 + 1)) (i32 (x4 + 1)) f11 f12 f13 f14 f15 f16 f17 f18 f19 k0 k25 k33 k34))) ∧ (¬ x5 = x1 → (x2 ≤ x6 → (¬ x5 = x1 → HX3_back_38 Q b s x1 x2 (i32 (x3 + 0)) (i32 (x4 + 1)) f11 f12 f13 f14 f15 f16 f17 f18 f19 k0 k25 k33 k34) ∧ (x5 = x1 → (¬ x6 = x2 → HX3_back_38 Q b s x1 x2 (i32 (x3 + 0)) (i32 (x4 + 1)) f11 f12 f13 f14 f15 f16 f17 f18 f19 k0 k25 k33 k34) ∧ (x6 = x2 → HX3_back_38 Q b s x1 x2 (i32 (x3 + 1)) (i32 (x4 + 1)) f11 f12 f13 f14 f15 f16 f17 f18 f19 k0 k25 k33 k34))) ∧ (¬ x2 ≤ x6 → (0 ≤ x5 ∧ x5 < 10000) ∧ (HX3_back_56 Q b s x1 x2 x3 x4 (f13 x5) (i32 (x6 + 1)) f11 f12 f13 f14 f15 f16 f17 f18 f19 k0 k25 k33 k34)))) : HX3_back_56 Q b s x1 x2 x3 x4 x5 x6 f11 f12 f13 f14 f15 f16 f17 f18 f19 k0 k25 k33 k34 := by
  refine JW.iload dX3_back_56 rfl ?_
  refine JW.iload_n dX3_back_58 rfl ?_
  refine JW.icmp_eq (tgt := 83) dX3_back_59 rfl (fun c_1 => ?_) (fun c_1 => ?_)
  · have K := K.1 c_1
    refine JW.iload_n dX3_back_83 rfl ?_
    refine JW.iload dX3_back_84 rfl ?_
    refine JW.iload_n dX3_back_86 rfl ?_
    refine JW.icmp_ne (tgt := 100) dX3_back_87 rfl (fun c_2 => ?_) (fun c_2 => ?_)
    · have K := K.1 c_2
      refine JW.iconst dX3_back_100 rfl ?_
      refine JW.iadd dX3_back_101 ?_
      refine JW.istore_n (ls' := [(0, vR 351), (1, vI x1), (2, vI x2), (3, vI (i32 (x3 + 0))), (4, vI x4), (5, vI x5), (6, vI x6)]) dX3_back_102 (Nat.le_of_ble_eq_true rfl) rfl ?_
      refine JW.iinc (ls' := [(0, vR 351), (1, vI x1), (2, vI x2), (3, vI (i32 (x3 + 0))), (4, vI (i32 (x4 + 1))), (5, vI x5), (6, vI x6)]) dX3_back_103 (Nat.le_of_ble_eq_true rfl) rfl rfl ?_
      refine JW.goto (tgt := 38) dX3_back_106 rfl ?_
      exact JW.pick [0, 1, 2, 3, 4] rfl K
    · have K := K.2 c_2
      refine JW.iload dX3_back_90 rfl ?_
      refine JW.iload_n dX3_back_92 rfl ?_
      refine JW.icmp_ne (tgt := 100) dX3_back_93 rfl (fun c_3 => ?_) (fun c_3 => ?_)
      · have K := K.1 c_3
        refine JW.iconst dX3_back_100 rfl ?_
        refine JW.iadd dX3_back_101 ?_
        refine JW.istore_n (ls' := [(0, vR 351), (1, vI x1), (2, vI x2), (3, vI (i32 (x3 + 0))), (4, vI x4), (5, vI x5), (6, vI x6)]) dX3_back_102 (Nat.le_of_ble_eq_true rfl) rfl ?_
        refine JW.iinc (ls' := [(0, vR 351), (1, vI x1), (2, vI x2), (3, vI (i32 (x3 + 0))), (4, vI (i32 (x4 + 1))), (5, vI x5), (6, vI x6)]) dX3_back_103 (Nat.le_of_ble_eq_true rfl) rfl rfl ?_
        refine JW.goto (tgt := 38) dX3_back_106 rfl ?_
        exact JW.pick [0, 1, 2, 3, 4] rfl K
      · have K := K.2 c_3
        refine JW.iconst dX3_back_96 rfl ?_
        refine JW.goto (tgt := 101) dX3_back_97 rfl ?_
        refine JW.iadd dX3_back_101 ?_
        refine JW.istore_n (ls' := [(0, vR 351), (1, vI x1), (2, vI x2), (3, vI (i32 (x3 + 1))), (4, vI x4), (5, vI x5), (6, vI x6)]) dX3_back_102 (Nat.le_of_ble_eq_true rfl) rfl ?_
        refine JW.iinc (ls' := [(0, vR 351), (1, vI x1), (2, vI x2), (3, vI (i32 (x3 + 1))), (4, vI (i32 (x4 + 1))), (5, vI x5), (6, vI x6)]) dX3_back_103 (Nat.le_of_ble_eq_true rfl) rfl rfl ?_
        refine JW.goto (tgt := 38) dX3_back_106 rfl ?_
        exact JW.pick [0, 1, 2, 3, 4] rfl K
  · have K := K.2 c_1
    refine JW.iload dX3_back_62 rfl ?_
    refine JW.iload_n dX3_back_64 rfl ?_
    refine JW.icmp_ge (tgt := 83) dX3_back_65 rfl (fun c_4 => ?_) (fun c_4 => ?_)
    · have K := K.1 c_4
      refine JW.iload_n dX3_back_83 rfl ?_
      refine JW.iload dX3_back_84 rfl ?_
      refine JW.iload_n dX3_back_86 rfl ?_
      refine JW.icmp_ne (tgt := 100) dX3_back_87 rfl (fun c_5 => ?_) (fun c_5 => ?_)
      · have K := K.1 c_5
        refine JW.iconst dX3_back_100 rfl ?_
        refine JW.iadd dX3_back_101 ?_
        refine JW.istore_n (ls' := [(0, vR 351), (1, vI x1), (2, vI x2), (3, vI (i32 (x3 + 0))), (4, vI x4), (5, vI x5), (6, vI x6)]) dX3_back_102 (Nat.le_of_ble_eq_true rfl) rfl ?_
        refine JW.iinc (ls' := [(0, vR 351), (1, vI x1), (2, vI x2), (3, vI (i32 (x3 + 0))), (4, vI (i32 (x4 + 1))), (5, vI x5), (6, vI x6)]) dX3_back_103 (Nat.le_of_ble_eq_true rfl) rfl rfl ?_
        refine JW.goto (tgt := 38) dX3_back_106 rfl ?_
        exact JW.pick [0, 1, 2, 3, 4] rfl K
      · have K := K.2 c_5
        refine JW.iload dX3_back_90 rfl ?_
        refine JW.iload_n dX3_back_92 rfl ?_
        refine JW.icmp_ne (tgt := 100) dX3_back_93 rfl (fun c_6 => ?_) (fun c_6 => ?_)
        · have K := K.1 c_6
          refine JW.iconst dX3_back_100 rfl ?_
          refine JW.iadd dX3_back_101 ?_
          refine JW.istore_n (ls' := [(0, vR 351), (1, vI x1), (2, vI x2), (3, vI (i32 (x3 + 0))), (4, vI x4), (5, vI x5), (6, vI x6)]) dX3_back_102 (Nat.le_of_ble_eq_true rfl) rfl ?_
          refine JW.iinc (ls' := [(0, vR 351), (1, vI x1), (2, vI x2), (3, vI (i32 (x3 + 0))), (4, vI (i32 (x4 + 1))), (5, vI x5), (6, vI x6)]) dX3_back_103 (Nat.le_of_ble_eq_true rfl) rfl rfl ?_
          refine JW.goto (tgt := 38) dX3_back_106 rfl ?_
          exact JW.pick [0, 1, 2, 3, 4] rfl K
        · have K := K.2 c_6
          refine JW.iconst dX3_back_96 rfl ?_
          refine JW.goto (tgt := 101) dX3_back_97 rfl ?_
          refine JW.iadd dX3_back_101 ?_
          refine JW.istore_n (ls' := [(0, vR 351), (1, vI x1), (2, vI x2), (3, vI (i32 (x3 + 1))), (4, vI x4), (5, vI x5), (6, vI x6)]) dX3_back_102 (Nat.le_of_ble_eq_true rfl) rfl ?_
          refine JW.iinc (ls' := [(0, vR 351), (1, vI x1), (2, vI x2), (3, vI (i32 (x3 + 1))), (4, vI (i32 (x4 + 1))), (5, vI x5), (6, vI x6)]) dX3_back_103 (Nat.le_of_ble_eq_true rfl) rfl rfl ?_
          refine JW.goto (tgt := 38) dX3_back_106 rfl ?_
          exact JW.pick [0, 1, 2, 3, 4] rfl K
    · have K := K.2 c_4
      refine JW.aload_n dX3_back_68 rfl ?_
      refine JW.mget (v := vR 365) dX3_back_69 fX3_56 rfl ?_
      refine JW.iload dX3_back_72 rfl ?_
      obtain ⟨o_7, K⟩ := K
      refine JW.mald 13 (x := (f13 x5)) dX3_back_74 (Nat.le_of_ble_eq_true rfl) rfl o_7.1 o_7.2 rfl ?_
      refine JW.istore (ls' := [(0, vR 351), (1, vI x1), (2, vI x2), (3, vI x3), (4, vI x4), (5, vI (f13 x5)), (6, vI x6)]) dX3_back_75 (Nat.le_of_ble_eq_true rfl) rfl ?_
      refine JW.iinc (ls' := [(0, vR 351), (1, vI x1), (2, vI x2), (3, vI x3), (4, vI x4), (5, vI (f13 x5)), (6, vI (i32 (x6 + 1)))]) dX3_back_77 (Nat.le_of_ble_eq_true rfl) rfl rfl ?_
      refine JW.goto (tgt := 56) dX3_back_80 rfl ?_
      exact JW.pick [0, 1, 2, 3, 4, 5, 6] rfl K
def QX3_back (s : MS) (a1 : Int) (a2 : Int) : Option AV → MS → Prop := fun v s' => ∃ (f11 : Int → Int) (f12 : Int → Int) (f13 : Int → Int) (f14 : Int → Int) (f15 : Int → Int) (f16 : Int → Int) (f17 : Int → Int) (f18 : Int → Int) (f19 : Int → Int) (k25 : Int) (k33 : Int) (k34 : Int), v = some (vI (rBack (s.2 6) (s.2 7) a1 a2)) ∧ s' = sS (sS (sS (sS (sA (sA (sA (sA (sA (sA (sA (sA (sA s 11 f11) 12 f12) 13 f13) 14 f14) 15 f15) 16 f16) 17 f17) 18 f18) 19 f19) 0 (0)) 25 k25) 33 k33) 34 k34
theorem vX3_back_1 (s : MS) (a1 : Int) (a2 : Int) (hp : tOK (s.2 6) ∧ aOK (s.2 6) (s.2 7)) (x1 : Int) (x2 : Int) (x3 : Int) (x4 : Int) (f11 : Int → Int) (f12 : Int → Int) (f13 : Int → Int) (f14 : Int → Int) (f15 : Int → Int) (f16 : Int → Int) (f17 : Int → Int) (f18 : Int → Int) (f19 : Int → Int) (k0 : Int) (k25 : Int) (k33 : Int) (k34 : Int) (hI : k0 = 0 ∧ NXO (s.2 6) (s.2 7) f13 ∧ (x1 = a1 ∧ x2 = a2 ∧ 0 ≤ a1 ∧ a1 < s.2 6 2 ∧ 0 ≤ a2 ∧ a2 ≤ 200) ∧ (0 ≤ x4 ∧ x4 ≤ s.2 6 2) ∧ x3 = many (fun y => awayIs (nx (s.2 6) (s.2 7)) a1 y a2.toNat) x4.toNat) (c_1 : (s.2 6 2) ≤ x4) : k0 = (0) := by
  obtain ⟨ht, ha⟩ := hp
  have hN := tOK_N ht
  have hg := nx_rng (s.2 6) (s.2 7)
  (try simp only [bI_0, bI_n, Classical.not_not] at *)
  (try have hq := ‹NXO (s.2 6) (s.2 7) _›)
  (try have hq := hI.2.1)
  (try have hb := many_b (fun y => awayIs (nx (s.2 6) (s.2 7)) a1 y a2.toNat) x4.toNat)
  (try (have hw := it_b hg (x := x4) (by omega) (by omega) x6.toNat; rw [← hI.2.2.2.2.2.2.1] at hw; have hw2 := hq x5 hw.1 hw.2))
  (try unfold lex3)
  (try simp only [bI_0, bI_n, Classical.not_not] at *)
  (try simp (disch := omega) only [i32_id] at *)
  first | done | omega | ((repeat' (with_reducible apply And.intro)) <;> first | assumption | rfl | omega | (exact hI.1) | (exact hI.2.1) | (exact hq) | (unfold rBack; rw [if_neg (by omega)]) | (unfold rBack; rw [if_pos (by omega), hI.2.2.2.2, show x4 = s.2 6 2 by omega]) | (intro j hj; omega) | (rw [hw2, hI.2.2.2.2.2.2.1, show (x6 + 1).toNat = x6.toNat + 1 by omega]; rfl) | (intro j hj; by_cases e9 : j = x6.toNat; (focus (rw [e9, ← hI.2.2.2.2.2.2.1]; omega)); (focus (exact hI.2.2.2.2.2.2.2 j (by omega)))) | (have h9 := many_t (p := fun y => awayIs (nx (s.2 6) (s.2 7)) a1 y a2.toNat) (k := x4) (by omega) (away_y (by rw [show a2 = x6 by omega, ← hI.2.2.2.2.2.2.1]; omega) (fun m hm => hI.2.2.2.2.2.2.2 m (by omega))); omega) | (have h9 := many_f (p := fun y => awayIs (nx (s.2 6) (s.2 7)) a1 y a2.toNat) (k := x4) (by omega) (away_n1 (k := x6.toNat) (by rw [← hI.2.2.2.2.2.2.1]; omega) (by omega)); omega) | (have h9 := many_f (p := fun y => awayIs (nx (s.2 6) (s.2 7)) a1 y a2.toNat) (k := x4) (by omega) (away_n2 (by rw [show a2 = x6 by omega, ← hI.2.2.2.2.2.2.1]; omega)); omega) | grind [upI])
theorem vX3_back_2 (s : MS) (a1 : Int) (a2 : Int) (hp : tOK (s.2 6) ∧ aOK (s.2 6) (s.2 7)) (x1 : Int) (x2 : Int) (x3 : Int) (x4 : Int) (f11 : Int → Int) (f12 : Int → Int) (f13 : Int → Int) (f14 : Int → Int) (f15 : Int → Int) (f16 : Int → Int) (f17 : Int → Int) (f18 : Int → Int) (f19 : Int → Int) (k0 : Int) (k25 : Int) (k33 : Int) (k34 : Int) (hI : k0 = 0 ∧ NXO (s.2 6) (s.2 7) f13 ∧ (x1 = a1 ∧ x2 = a2 ∧ 0 ≤ a1 ∧ a1 < s.2 6 2 ∧ 0 ≤ a2 ∧ a2 ≤ 200) ∧ (0 ≤ x4 ∧ x4 ≤ s.2 6 2) ∧ x3 = many (fun y => awayIs (nx (s.2 6) (s.2 7)) a1 y a2.toNat) x4.toNat) (c_1 : (s.2 6 2) ≤ x4) : x3 = (rBack (s.2 6) (s.2 7) a1 a2) := by
  obtain ⟨ht, ha⟩ := hp
  have hN := tOK_N ht
  have hg := nx_rng (s.2 6) (s.2 7)
  (try simp only [bI_0, bI_n, Classical.not_not] at *)
  (try have hq := ‹NXO (s.2 6) (s.2 7) _›)
  (try have hq := hI.2.1)
  (try have hb := many_b (fun y => awayIs (nx (s.2 6) (s.2 7)) a1 y a2.toNat) x4.toNat)
  (try (have hw := it_b hg (x := x4) (by omega) (by omega) x6.toNat; rw [← hI.2.2.2.2.2.2.1] at hw; have hw2 := hq x5 hw.1 hw.2))
  (try unfold lex3)
  (try simp only [bI_0, bI_n, Classical.not_not] at *)
  (try simp (disch := omega) only [i32_id] at *)
  first | done | omega | ((repeat' (with_reducible apply And.intro)) <;> first | assumption | rfl | omega | (exact hI.1) | (exact hI.2.1) | (exact hq) | (unfold rBack; rw [if_neg (by omega)]) | (unfold rBack; rw [if_pos (by omega), hI.2.2.2.2, show x4 = s.2 6 2 by omega]) | (intro j hj; omega) | (rw [hw2, hI.2.2.2.2.2.2.1, show (x6 + 1).toNat = x6.toNat + 1 by omega]; rfl) | (intro j hj; by_cases e9 : j = x6.toNat; (focus (rw [e9, ← hI.2.2.2.2.2.2.1]; omega)); (focus (exact hI.2.2.2.2.2.2.2 j (by omega)))) | (have h9 := many_t (p := fun y => awayIs (nx (s.2 6) (s.2 7)) a1 y a2.toNat) (k := x4) (by omega) (away_y (by rw [show a2 = x6 by omega, ← hI.2.2.2.2.2.2.1]; omega) (fun m hm => hI.2.2.2.2.2.2.2 m (by omega))); omega) | (have h9 := many_f (p := fun y => awayIs (nx (s.2 6) (s.2 7)) a1 y a2.toNat) (k := x4) (by omega) (away_n1 (k := x6.toNat) (by rw [← hI.2.2.2.2.2.2.1]; omega) (by omega)); omega) | (have h9 := many_f (p := fun y => awayIs (nx (s.2 6) (s.2 7)) a1 y a2.toNat) (k := x4) (by omega) (away_n2 (by rw [show a2 = x6 by omega, ← hI.2.2.2.2.2.2.1]; omega)); omega) | grind [upI])
theorem vX3_back_3 (s : MS) (a1 : Int) (a2 : Int) (hp : tOK (s.2 6) ∧ aOK (s.2 6) (s.2 7)) (x1 : Int) (x2 : Int) (x3 : Int) (x4 : Int) (f11 : Int → Int) (f12 : Int → Int) (f13 : Int → Int) (f14 : Int → Int) (f15 : Int → Int) (f16 : Int → Int) (f17 : Int → Int) (f18 : Int → Int) (f19 : Int → Int) (k0 : Int) (k25 : Int) (k33 : Int) (k34 : Int) (hI : k0 = 0 ∧ NXO (s.2 6) (s.2 7) f13 ∧ (x1 = a1 ∧ x2 = a2 ∧ 0 ≤ a1 ∧ a1 < s.2 6 2 ∧ 0 ≤ a2 ∧ a2 ≤ 200) ∧ (0 ≤ x4 ∧ x4 ≤ s.2 6 2) ∧ x3 = many (fun y => awayIs (nx (s.2 6) (s.2 7)) a1 y a2.toNat) x4.toNat) (c_1 : ¬ (s.2 6 2) ≤ x4) : k0 = 0 ∧ NXO (s.2 6) (s.2 7) f13 ∧ (x1 = a1 ∧ x2 = a2 ∧ 0 ≤ a1 ∧ a1 < s.2 6 2 ∧ 0 ≤ a2 ∧ a2 ≤ 200) ∧ (0 ≤ x4 ∧ x4 < s.2 6 2) ∧ x3 = many (fun y => awayIs (nx (s.2 6) (s.2 7)) a1 y a2.toNat) x4.toNat ∧ (0 ≤ (0 : Int) ∧ (0 : Int) ≤ a2) ∧ x4 = it (nx (s.2 6) (s.2 7)) x4 (0 : Int).toNat ∧ ∀ j : Nat, j < (0 : Int) → it (nx (s.2 6) (s.2 7)) x4 j ≠ a1 := by
  obtain ⟨ht, ha⟩ := hp
  have hN := tOK_N ht
  have hg := nx_rng (s.2 6) (s.2 7)
  (try simp only [bI_0, bI_n, Classical.not_not] at *)
  (try have hq := ‹NXO (s.2 6) (s.2 7) _›)
  (try have hq := hI.2.1)
  (try have hb := many_b (fun y => awayIs (nx (s.2 6) (s.2 7)) a1 y a2.toNat) x4.toNat)
  (try (have hw := it_b hg (x := x4) (by omega) (by omega) x6.toNat; rw [← hI.2.2.2.2.2.2.1] at hw; have hw2 := hq x5 hw.1 hw.2))
  (try unfold lex3)
  (try simp only [bI_0, bI_n, Classical.not_not] at *)
  (try simp (disch := omega) only [i32_id] at *)
  first | done | omega | ((repeat' (with_reducible apply And.intro)) <;> first | assumption | rfl | omega | (exact hI.1) | (exact hI.2.1) | (exact hq) | (unfold rBack; rw [if_neg (by omega)]) | (unfold rBack; rw [if_pos (by omega), hI.2.2.2.2, show x4 = s.2 6 2 by omega]) | (intro j hj; omega) | (rw [hw2, hI.2.2.2.2.2.2.1, show (x6 + 1).toNat = x6.toNat + 1 by omega]; rfl) | (intro j hj; by_cases e9 : j = x6.toNat; (focus (rw [e9, ← hI.2.2.2.2.2.2.1]; omega)); (focus (exact hI.2.2.2.2.2.2.2 j (by omega)))) | (have h9 := many_t (p := fun y => awayIs (nx (s.2 6) (s.2 7)) a1 y a2.toNat) (k := x4) (by omega) (away_y (by rw [show a2 = x6 by omega, ← hI.2.2.2.2.2.2.1]; omega) (fun m hm => hI.2.2.2.2.2.2.2 m (by omega))); omega) | (have h9 := many_f (p := fun y => awayIs (nx (s.2 6) (s.2 7)) a1 y a2.toNat) (k := x4) (by omega) (away_n1 (k := x6.toNat) (by rw [← hI.2.2.2.2.2.2.1]; omega) (by omega)); omega) | (have h9 := many_f (p := fun y => awayIs (nx (s.2 6) (s.2 7)) a1 y a2.toNat) (k := x4) (by omega) (away_n2 (by rw [show a2 = x6 by omega, ← hI.2.2.2.2.2.2.1]; omega)); omega) | grind [upI])
theorem vX3_back_4 (s : MS) (a1 : Int) (a2 : Int) (hp : tOK (s.2 6) ∧ aOK (s.2 6) (s.2 7)) (x1 : Int) (x2 : Int) (x3 : Int) (x4 : Int) (f11 : Int → Int) (f12 : Int → Int) (f13 : Int → Int) (f14 : Int → Int) (f15 : Int → Int) (f16 : Int → Int) (f17 : Int → Int) (f18 : Int → Int) (f19 : Int → Int) (k0 : Int) (k25 : Int) (k33 : Int) (k34 : Int) (hI : k0 = 0 ∧ NXO (s.2 6) (s.2 7) f13 ∧ (x1 = a1 ∧ x2 = a2 ∧ 0 ≤ a1 ∧ a1 < s.2 6 2 ∧ 0 ≤ a2 ∧ a2 ≤ 200) ∧ (0 ≤ x4 ∧ x4 ≤ s.2 6 2) ∧ x3 = many (fun y => awayIs (nx (s.2 6) (s.2 7)) a1 y a2.toNat) x4.toNat) (c_1 : ¬ (s.2 6 2) ≤ x4) : lex3 0 ((s.2 6 2 - x4).toNat - 1) ((a2 - (0 : Int)).toNat + 1) 0 ((s.2 6 2 - x4).toNat) 0 := by
  obtain ⟨ht, ha⟩ := hp
  have hN := tOK_N ht
  have hg := nx_rng (s.2 6) (s.2 7)
  (try simp only [bI_0, bI_n, Classical.not_not] at *)
  (try have hq := ‹NXO (s.2 6) (s.2 7) _›)
  (try have hq := hI.2.1)
  (try have hb := many_b (fun y => awayIs (nx (s.2 6) (s.2 7)) a1 y a2.toNat) x4.toNat)
  (try (have hw := it_b hg (x := x4) (by omega) (by omega) x6.toNat; rw [← hI.2.2.2.2.2.2.1] at hw; have hw2 := hq x5 hw.1 hw.2))
  (try unfold lex3)
  (try simp only [bI_0, bI_n, Classical.not_not] at *)
  (try simp (disch := omega) only [i32_id] at *)
  first | done | omega | ((repeat' (with_reducible apply And.intro)) <;> first | assumption | rfl | omega | (exact hI.1) | (exact hI.2.1) | (exact hq) | (unfold rBack; rw [if_neg (by omega)]) | (unfold rBack; rw [if_pos (by omega), hI.2.2.2.2, show x4 = s.2 6 2 by omega]) | (intro j hj; omega) | (rw [hw2, hI.2.2.2.2.2.2.1, show (x6 + 1).toNat = x6.toNat + 1 by omega]; rfl) | (intro j hj; by_cases e9 : j = x6.toNat; (focus (rw [e9, ← hI.2.2.2.2.2.2.1]; omega)); (focus (exact hI.2.2.2.2.2.2.2 j (by omega)))) | (have h9 := many_t (p := fun y => awayIs (nx (s.2 6) (s.2 7)) a1 y a2.toNat) (k := x4) (by omega) (away_y (by rw [show a2 = x6 by omega, ← hI.2.2.2.2.2.2.1]; omega) (fun m hm => hI.2.2.2.2.2.2.2 m (by omega))); omega) | (have h9 := many_f (p := fun y => awayIs (nx (s.2 6) (s.2 7)) a1 y a2.toNat) (k := x4) (by omega) (away_n1 (k := x6.toNat) (by rw [← hI.2.2.2.2.2.2.1]; omega) (by omega)); omega) | (have h9 := many_f (p := fun y => awayIs (nx (s.2 6) (s.2 7)) a1 y a2.toNat) (k := x4) (by omega) (away_n2 (by rw [show a2 = x6 by omega, ← hI.2.2.2.2.2.2.1]; omega)); omega) | grind [upI])
theorem vX3_back_5 (s : MS) (a1 : Int) (a2 : Int) (hp : tOK (s.2 6) ∧ aOK (s.2 6) (s.2 7)) (x1 : Int) (x2 : Int) (x3 : Int) (x4 : Int) (x5 : Int) (x6 : Int) (f11 : Int → Int) (f12 : Int → Int) (f13 : Int → Int) (f14 : Int → Int) (f15 : Int → Int) (f16 : Int → Int) (f17 : Int → Int) (f18 : Int → Int) (f19 : Int → Int) (k0 : Int) (k25 : Int) (k33 : Int) (k34 : Int) (hI : k0 = 0 ∧ NXO (s.2 6) (s.2 7) f13 ∧ (x1 = a1 ∧ x2 = a2 ∧ 0 ≤ a1 ∧ a1 < s.2 6 2 ∧ 0 ≤ a2 ∧ a2 ≤ 200) ∧ (0 ≤ x4 ∧ x4 < s.2 6 2) ∧ x3 = many (fun y => awayIs (nx (s.2 6) (s.2 7)) a1 y a2.toNat) x4.toNat ∧ (0 ≤ x6 ∧ x6 ≤ a2) ∧ x5 = it (nx (s.2 6) (s.2 7)) x4 x6.toNat ∧ ∀ j : Nat, j < x6 → it (nx (s.2 6) (s.2 7)) x4 j ≠ a1) (c_1 : x5 = x1) (c_2 : ¬ x5 = x1) : k0 = 0 ∧ NXO (s.2 6) (s.2 7) f13 ∧ (x1 = a1 ∧ x2 = a2 ∧ 0 ≤ a1 ∧ a1 < s.2 6 2 ∧ 0 ≤ a2 ∧ a2 ≤ 200) ∧ (0 ≤ (i32 (x4 + 1)) ∧ (i32 (x4 + 1)) ≤ s.2 6 2) ∧ (i32 (x3 + 0)) = many (fun y => awayIs (nx (s.2 6) (s.2 7)) a1 y a2.toNat) (i32 (x4 + 1)).toNat := by
  obtain ⟨ht, ha⟩ := hp
  have hN := tOK_N ht
  have hg := nx_rng (s.2 6) (s.2 7)
  (try simp only [bI_0, bI_n, Classical.not_not] at *)
  (try have hq := ‹NXO (s.2 6) (s.2 7) _›)
  (try have hq := hI.2.1)
  (try have hb := many_b (fun y => awayIs (nx (s.2 6) (s.2 7)) a1 y a2.toNat) x4.toNat)
  (try (have hw := it_b hg (x := x4) (by omega) (by omega) x6.toNat; rw [← hI.2.2.2.2.2.2.1] at hw; have hw2 := hq x5 hw.1 hw.2))
  (try unfold lex3)
  (try simp only [bI_0, bI_n, Classical.not_not] at *)
  (try simp (disch := omega) only [i32_id] at *)
  first | done | omega | ((repeat' (with_reducible apply And.intro)) <;> first | assumption | rfl | omega | (exact hI.1) | (exact hI.2.1) | (exact hq) | (unfold rBack; rw [if_neg (by omega)]) | (unfold rBack; rw [if_pos (by omega), hI.2.2.2.2, show x4 = s.2 6 2 by omega]) | (intro j hj; omega) | (rw [hw2, hI.2.2.2.2.2.2.1, show (x6 + 1).toNat = x6.toNat + 1 by omega]; rfl) | (intro j hj; by_cases e9 : j = x6.toNat; (focus (rw [e9, ← hI.2.2.2.2.2.2.1]; omega)); (focus (exact hI.2.2.2.2.2.2.2 j (by omega)))) | (have h9 := many_t (p := fun y => awayIs (nx (s.2 6) (s.2 7)) a1 y a2.toNat) (k := x4) (by omega) (away_y (by rw [show a2 = x6 by omega, ← hI.2.2.2.2.2.2.1]; omega) (fun m hm => hI.2.2.2.2.2.2.2 m (by omega))); omega) | (have h9 := many_f (p := fun y => awayIs (nx (s.2 6) (s.2 7)) a1 y a2.toNat) (k := x4) (by omega) (away_n1 (k := x6.toNat) (by rw [← hI.2.2.2.2.2.2.1]; omega) (by omega)); omega) | (have h9 := many_f (p := fun y => awayIs (nx (s.2 6) (s.2 7)) a1 y a2.toNat) (k := x4) (by omega) (away_n2 (by rw [show a2 = x6 by omega, ← hI.2.2.2.2.2.2.1]; omega)); omega) | grind [upI])
theorem vX3_back_6 (s : MS) (a1 : Int) (a2 : Int) (hp : tOK (s.2 6) ∧ aOK (s.2 6) (s.2 7)) (x1 : Int) (x2 : Int) (x3 : Int) (x4 : Int) (x5 : Int) (x6 : Int) (f11 : Int → Int) (f12 : Int → Int) (f13 : Int → Int) (f14 : Int → Int) (f15 : Int → Int) (f16 : Int → Int) (f17 : Int → Int) (f18 : Int → Int) (f19 : Int → Int) (k0 : Int) (k25 : Int) (k33 : Int) (k34 : Int) (hI : k0 = 0 ∧ NXO (s.2 6) (s.2 7) f13 ∧ (x1 = a1 ∧ x2 = a2 ∧ 0 ≤ a1 ∧ a1 < s.2 6 2 ∧ 0 ≤ a2 ∧ a2 ≤ 200) ∧ (0 ≤ x4 ∧ x4 < s.2 6 2) ∧ x3 = many (fun y => awayIs (nx (s.2 6) (s.2 7)) a1 y a2.toNat) x4.toNat ∧ (0 ≤ x6 ∧ x6 ≤ a2) ∧ x5 = it (nx (s.2 6) (s.2 7)) x4 x6.toNat ∧ ∀ j : Nat, j < x6 → it (nx (s.2 6) (s.2 7)) x4 j ≠ a1) (c_1 : x5 = x1) (c_2 : ¬ x5 = x1) : lex3 0 ((s.2 6 2 - (i32 (x4 + 1))).toNat) 0 0 ((s.2 6 2 - x4).toNat - 1) ((a2 - x6).toNat + 1) := by
  obtain ⟨ht, ha⟩ := hp
  have hN := tOK_N ht
  have hg := nx_rng (s.2 6) (s.2 7)
  (try simp only [bI_0, bI_n, Classical.not_not] at *)
  (try have hq := ‹NXO (s.2 6) (s.2 7) _›)
  (try have hq := hI.2.1)
  (try have hb := many_b (fun y => awayIs (nx (s.2 6) (s.2 7)) a1 y a2.toNat) x4.toNat)
  (try (have hw := it_b hg (x := x4) (by omega) (by omega) x6.toNat; rw [← hI.2.2.2.2.2.2.1] at hw; have hw2 := hq x5 hw.1 hw.2))
  (try unfold lex3)
  (try simp only [bI_0, bI_n, Classical.not_not] at *)
  (try simp (disch := omega) only [i32_id] at *)
  first | done | omega | ((repeat' (with_reducible apply And.intro)) <;> first | assumption | rfl | omega | (exact hI.1) | (exact hI.2.1) | (exact hq) | (unfold rBack; rw [if_neg (by omega)]) | (unfold rBack; rw [if_pos (by omega), hI.2.2.2.2, show x4 = s.2 6 2 by omega]) | (intro j hj; omega) | (rw [hw2, hI.2.2.2.2.2.2.1, show (x6 + 1).toNat = x6.toNat + 1 by omega]; rfl) | (intro j hj; by_cases e9 : j = x6.toNat; (focus (rw [e9, ← hI.2.2.2.2.2.2.1]; omega)); (focus (exact hI.2.2.2.2.2.2.2 j (by omega)))) | (have h9 := many_t (p := fun y => awayIs (nx (s.2 6) (s.2 7)) a1 y a2.toNat) (k := x4) (by omega) (away_y (by rw [show a2 = x6 by omega, ← hI.2.2.2.2.2.2.1]; omega) (fun m hm => hI.2.2.2.2.2.2.2 m (by omega))); omega) | (have h9 := many_f (p := fun y => awayIs (nx (s.2 6) (s.2 7)) a1 y a2.toNat) (k := x4) (by omega) (away_n1 (k := x6.toNat) (by rw [← hI.2.2.2.2.2.2.1]; omega) (by omega)); omega) | (have h9 := many_f (p := fun y => awayIs (nx (s.2 6) (s.2 7)) a1 y a2.toNat) (k := x4) (by omega) (away_n2 (by rw [show a2 = x6 by omega, ← hI.2.2.2.2.2.2.1]; omega)); omega) | grind [upI])
theorem vX3_back_7 (s : MS) (a1 : Int) (a2 : Int) (hp : tOK (s.2 6) ∧ aOK (s.2 6) (s.2 7)) (x1 : Int) (x2 : Int) (x3 : Int) (x4 : Int) (x5 : Int) (x6 : Int) (f11 : Int → Int) (f12 : Int → Int) (f13 : Int → Int) (f14 : Int → Int) (f15 : Int → Int) (f16 : Int → Int) (f17 : Int → Int) (f18 : Int → Int) (f19 : Int → Int) (k0 : Int) (k25 : Int) (k33 : Int) (k34 : Int) (hI : k0 = 0 ∧ NXO (s.2 6) (s.2 7) f13 ∧ (x1 = a1 ∧ x2 = a2 ∧ 0 ≤ a1 ∧ a1 < s.2 6 2 ∧ 0 ≤ a2 ∧ a2 ≤ 200) ∧ (0 ≤ x4 ∧ x4 < s.2 6 2) ∧ x3 = many (fun y => awayIs (nx (s.2 6) (s.2 7)) a1 y a2.toNat) x4.toNat ∧ (0 ≤ x6 ∧ x6 ≤ a2) ∧ x5 = it (nx (s.2 6) (s.2 7)) x4 x6.toNat ∧ ∀ j : Nat, j < x6 → it (nx (s.2 6) (s.2 7)) x4 j ≠ a1) (c_1 : x5 = x1) (c_2 : x5 = x1) (c_3 : ¬ x6 = x2) : k0 = 0 ∧ NXO (s.2 6) (s.2 7) f13 ∧ (x1 = a1 ∧ x2 = a2 ∧ 0 ≤ a1 ∧ a1 < s.2 6 2 ∧ 0 ≤ a2 ∧ a2 ≤ 200) ∧ (0 ≤ (i32 (x4 + 1)) ∧ (i32 (x4 + 1)) ≤ s.2 6 2) ∧ (i32 (x3 + 0)) = many (fun y => awayIs (nx (s.2 6) (s.2 7)) a1 y a2.toNat) (i32 (x4 + 1)).toNat := by
  obtain ⟨ht, ha⟩ := hp
  have hN := tOK_N ht
  have hg := nx_rng (s.2 6) (s.2 7)
  (try simp only [bI_0, bI_n, Classical.not_not] at *)
  (try have hq := ‹NXO (s.2 6) (s.2 7) _›)
  (try have hq := hI.2.1)
  (try have hb := many_b (fun y => awayIs (nx (s.2 6) (s.2 7)) a1 y a2.toNat) x4.toNat)
  (try (have hw := it_b hg (x := x4) (by omega) (by omega) x6.toNat; rw [← hI.2.2.2.2.2.2.1] at hw; have hw2 := hq x5 hw.1 hw.2))
  (try unfold lex3)
  (try simp only [bI_0, bI_n, Classical.not_not] at *)
  (try simp (disch := omega) only [i32_id] at *)
  first | done | omega | ((repeat' (with_reducible apply And.intro)) <;> first | assumption | rfl | omega | (exact hI.1) | (exact hI.2.1) | (exact hq) | (unfold rBack; rw [if_neg (by omega)]) | (unfold rBack; rw [if_pos (by omega), hI.2.2.2.2, show x4 = s.2 6 2 by omega]) | (intro j hj; omega) | (rw [hw2, hI.2.2.2.2.2.2.1, show (x6 + 1).toNat = x6.toNat + 1 by omega]; rfl) | (intro j hj; by_cases e9 : j = x6.toNat; (focus (rw [e9, ← hI.2.2.2.2.2.2.1]; omega)); (focus (exact hI.2.2.2.2.2.2.2 j (by omega)))) | (have h9 := many_t (p := fun y => awayIs (nx (s.2 6) (s.2 7)) a1 y a2.toNat) (k := x4) (by omega) (away_y (by rw [show a2 = x6 by omega, ← hI.2.2.2.2.2.2.1]; omega) (fun m hm => hI.2.2.2.2.2.2.2 m (by omega))); omega) | (have h9 := many_f (p := fun y => awayIs (nx (s.2 6) (s.2 7)) a1 y a2.toNat) (k := x4) (by omega) (away_n1 (k := x6.toNat) (by rw [← hI.2.2.2.2.2.2.1]; omega) (by omega)); omega) | (have h9 := many_f (p := fun y => awayIs (nx (s.2 6) (s.2 7)) a1 y a2.toNat) (k := x4) (by omega) (away_n2 (by rw [show a2 = x6 by omega, ← hI.2.2.2.2.2.2.1]; omega)); omega) | grind [upI])
theorem vX3_back_8 (s : MS) (a1 : Int) (a2 : Int) (hp : tOK (s.2 6) ∧ aOK (s.2 6) (s.2 7)) (x1 : Int) (x2 : Int) (x3 : Int) (x4 : Int) (x5 : Int) (x6 : Int) (f11 : Int → Int) (f12 : Int → Int) (f13 : Int → Int) (f14 : Int → Int) (f15 : Int → Int) (f16 : Int → Int) (f17 : Int → Int) (f18 : Int → Int) (f19 : Int → Int) (k0 : Int) (k25 : Int) (k33 : Int) (k34 : Int) (hI : k0 = 0 ∧ NXO (s.2 6) (s.2 7) f13 ∧ (x1 = a1 ∧ x2 = a2 ∧ 0 ≤ a1 ∧ a1 < s.2 6 2 ∧ 0 ≤ a2 ∧ a2 ≤ 200) ∧ (0 ≤ x4 ∧ x4 < s.2 6 2) ∧ x3 = many (fun y => awayIs (nx (s.2 6) (s.2 7)) a1 y a2.toNat) x4.toNat ∧ (0 ≤ x6 ∧ x6 ≤ a2) ∧ x5 = it (nx (s.2 6) (s.2 7)) x4 x6.toNat ∧ ∀ j : Nat, j < x6 → it (nx (s.2 6) (s.2 7)) x4 j ≠ a1) (c_1 : x5 = x1) (c_2 : x5 = x1) (c_3 : ¬ x6 = x2) : lex3 0 ((s.2 6 2 - (i32 (x4 + 1))).toNat) 0 0 ((s.2 6 2 - x4).toNat - 1) ((a2 - x6).toNat + 1) := by
  obtain ⟨ht, ha⟩ := hp
  have hN := tOK_N ht
  have hg := nx_rng (s.2 6) (s.2 7)
  (try simp only [bI_0, bI_n, Classical.not_not] at *)
  (try have hq := ‹NXO (s.2 6) (s.2 7) _›)
  (try have hq := hI.2.1)
  (try have hb := many_b (fun y => awayIs (nx (s.2 6) (s.2 7)) a1 y a2.toNat) x4.toNat)
  (try (have hw := it_b hg (x := x4) (by omega) (by omega) x6.toNat; rw [← hI.2.2.2.2.2.2.1] at hw; have hw2 := hq x5 hw.1 hw.2))
  (try unfold lex3)
  (try simp only [bI_0, bI_n, Classical.not_not] at *)
  (try simp (disch := omega) only [i32_id] at *)
  first | done | omega | ((repeat' (with_reducible apply And.intro)) <;> first | assumption | rfl | omega | (exact hI.1) | (exact hI.2.1) | (exact hq) | (unfold rBack; rw [if_neg (by omega)]) | (unfold rBack; rw [if_pos (by omega), hI.2.2.2.2, show x4 = s.2 6 2 by omega]) | (intro j hj; omega) | (rw [hw2, hI.2.2.2.2.2.2.1, show (x6 + 1).toNat = x6.toNat + 1 by omega]; rfl) | (intro j hj; by_cases e9 : j = x6.toNat; (focus (rw [e9, ← hI.2.2.2.2.2.2.1]; omega)); (focus (exact hI.2.2.2.2.2.2.2 j (by omega)))) | (have h9 := many_t (p := fun y => awayIs (nx (s.2 6) (s.2 7)) a1 y a2.toNat) (k := x4) (by omega) (away_y (by rw [show a2 = x6 by omega, ← hI.2.2.2.2.2.2.1]; omega) (fun m hm => hI.2.2.2.2.2.2.2 m (by omega))); omega) | (have h9 := many_f (p := fun y => awayIs (nx (s.2 6) (s.2 7)) a1 y a2.toNat) (k := x4) (by omega) (away_n1 (k := x6.toNat) (by rw [← hI.2.2.2.2.2.2.1]; omega) (by omega)); omega) | (have h9 := many_f (p := fun y => awayIs (nx (s.2 6) (s.2 7)) a1 y a2.toNat) (k := x4) (by omega) (away_n2 (by rw [show a2 = x6 by omega, ← hI.2.2.2.2.2.2.1]; omega)); omega) | grind [upI])
theorem vX3_back_9 (s : MS) (a1 : Int) (a2 : Int) (hp : tOK (s.2 6) ∧ aOK (s.2 6) (s.2 7)) (x1 : Int) (x2 : Int) (x3 : Int) (x4 : Int) (x5 : Int) (x6 : Int) (f11 : Int → Int) (f12 : Int → Int) (f13 : Int → Int) (f14 : Int → Int) (f15 : Int → Int) (f16 : Int → Int) (f17 : Int → Int) (f18 : Int → Int) (f19 : Int → Int) (k0 : Int) (k25 : Int) (k33 : Int) (k34 : Int) (hI : k0 = 0 ∧ NXO (s.2 6) (s.2 7) f13 ∧ (x1 = a1 ∧ x2 = a2 ∧ 0 ≤ a1 ∧ a1 < s.2 6 2 ∧ 0 ≤ a2 ∧ a2 ≤ 200) ∧ (0 ≤ x4 ∧ x4 < s.2 6 2) ∧ x3 = many (fun y => awayIs (nx (s.2 6) (s.2 7)) a1 y a2.toNat) x4.toNat ∧ (0 ≤ x6 ∧ x6 ≤ a2) ∧ x5 = it (nx (s.2 6) (s.2 7)) x4 x6.toNat ∧ ∀ j : Nat, j < x6 → it (nx (s.2 6) (s.2 7)) x4 j ≠ a1) (c_1 : x5 = x1) (c_2 : x5 = x1) (c_3 : x6 = x2) : k0 = 0 ∧ NXO (s.2 6) (s.2 7) f13 ∧ (x1 = a1 ∧ x2 = a2 ∧ 0 ≤ a1 ∧ a1 < s.2 6 2 ∧ 0 ≤ a2 ∧ a2 ≤ 200) ∧ (0 ≤ (i32 (x4 + 1)) ∧ (i32 (x4 + 1)) ≤ s.2 6 2) ∧ (i32 (x3 + 1)) = many (fun y => awayIs (nx (s.2 6) (s.2 7)) a1 y a2.toNat) (i32 (x4 + 1)).toNat := by
  obtain ⟨ht, ha⟩ := hp
  have hN := tOK_N ht
  have hg := nx_rng (s.2 6) (s.2 7)
  (try simp only [bI_0, bI_n, Classical.not_not] at *)
  (try have hq := ‹NXO (s.2 6) (s.2 7) _›)
  (try have hq := hI.2.1)
  (try have hb := many_b (fun y => awayIs (nx (s.2 6) (s.2 7)) a1 y a2.toNat) x4.toNat)
  (try (have hw := it_b hg (x := x4) (by omega) (by omega) x6.toNat; rw [← hI.2.2.2.2.2.2.1] at hw; have hw2 := hq x5 hw.1 hw.2))
  (try unfold lex3)
  (try simp only [bI_0, bI_n, Classical.not_not] at *)
  (try simp (disch := omega) only [i32_id] at *)
  first | done | omega | ((repeat' (with_reducible apply And.intro)) <;> first | assumption | rfl | omega | (exact hI.1) | (exact hI.2.1) | (exact hq) | (unfold rBack; rw [if_neg (by omega)]) | (unfold rBack; rw [if_pos (by omega), hI.2.2.2.2, show x4 = s.2 6 2 by omega]) | (intro j hj; omega) | (rw [hw2, hI.2.2.2.2.2.2.1, show (x6 + 1).toNat = x6.toNat + 1 by omega]; rfl) | (intro j hj; by_cases e9 : j = x6.toNat; (focus (rw [e9, ← hI.2.2.2.2.2.2.1]; omega)); (focus (exact hI.2.2.2.2.2.2.2 j (by omega)))) | (have h9 := many_t (p := fun y => awayIs (nx (s.2 6) (s.2 7)) a1 y a2.toNat) (k := x4) (by omega) (away_y (by rw [show a2 = x6 by omega, ← hI.2.2.2.2.2.2.1]; omega) (fun m hm => hI.2.2.2.2.2.2.2 m (by omega))); omega) | (have h9 := many_f (p := fun y => awayIs (nx (s.2 6) (s.2 7)) a1 y a2.toNat) (k := x4) (by omega) (away_n1 (k := x6.toNat) (by rw [← hI.2.2.2.2.2.2.1]; omega) (by omega)); omega) | (have h9 := many_f (p := fun y => awayIs (nx (s.2 6) (s.2 7)) a1 y a2.toNat) (k := x4) (by omega) (away_n2 (by rw [show a2 = x6 by omega, ← hI.2.2.2.2.2.2.1]; omega)); omega) | grind [upI])
theorem vX3_back_10 (s : MS) (a1 : Int) (a2 : Int) (hp : tOK (s.2 6) ∧ aOK (s.2 6) (s.2 7)) (x1 : Int) (x2 : Int) (x3 : Int) (x4 : Int) (x5 : Int) (x6 : Int) (f11 : Int → Int) (f12 : Int → Int) (f13 : Int → Int) (f14 : Int → Int) (f15 : Int → Int) (f16 : Int → Int) (f17 : Int → Int) (f18 : Int → Int) (f19 : Int → Int) (k0 : Int) (k25 : Int) (k33 : Int) (k34 : Int) (hI : k0 = 0 ∧ NXO (s.2 6) (s.2 7) f13 ∧ (x1 = a1 ∧ x2 = a2 ∧ 0 ≤ a1 ∧ a1 < s.2 6 2 ∧ 0 ≤ a2 ∧ a2 ≤ 200) ∧ (0 ≤ x4 ∧ x4 < s.2 6 2) ∧ x3 = many (fun y => awayIs (nx (s.2 6) (s.2 7)) a1 y a2.toNat) x4.toNat ∧ (0 ≤ x6 ∧ x6 ≤ a2) ∧ x5 = it (nx (s.2 6) (s.2 7)) x4 x6.toNat ∧ ∀ j : Nat, j < x6 → it (nx (s.2 6) (s.2 7)) x4 j ≠ a1) (c_1 : x5 = x1) (c_2 : x5 = x1) (c_3 : x6 = x2) : lex3 0 ((s.2 6 2 - (i32 (x4 + 1))).toNat) 0 0 ((s.2 6 2 - x4).toNat - 1) ((a2 - x6).toNat + 1) := by
  obtain ⟨ht, ha⟩ := hp
  have hN := tOK_N ht
  have hg := nx_rng (s.2 6) (s.2 7)
  (try simp only [bI_0, bI_n, Classical.not_not] at *)
  (try have hq := ‹NXO (s.2 6) (s.2 7) _›)
  (try have hq := hI.2.1)
  (try have hb := many_b (fun y => awayIs (nx (s.2 6) (s.2 7)) a1 y a2.toNat) x4.toNat)
  (try (have hw := it_b hg (x := x4) (by omega) (by omega) x6.toNat; rw [← hI.2.2.2.2.2.2.1] at hw; have hw2 := hq x5 hw.1 hw.2))
  (try unfold lex3)
  (try simp only [bI_0, bI_n, Classical.not_not] at *)
  (try simp (disch := omega) only [i32_id] at *)
  first | done | omega | ((repeat' (with_reducible apply And.intro)) <;> first | assumption | rfl | omega | (exact hI.1) | (exact hI.2.1) | (exact hq) | (unfold rBack; rw [if_neg (by omega)]) | (unfold rBack; rw [if_pos (by omega), hI.2.2.2.2, show x4 = s.2 6 2 by omega]) | (intro j hj; omega) | (rw [hw2, hI.2.2.2.2.2.2.1, show (x6 + 1).toNat = x6.toNat + 1 by omega]; rfl) | (intro j hj; by_cases e9 : j = x6.toNat; (focus (rw [e9, ← hI.2.2.2.2.2.2.1]; omega)); (focus (exact hI.2.2.2.2.2.2.2 j (by omega)))) | (have h9 := many_t (p := fun y => awayIs (nx (s.2 6) (s.2 7)) a1 y a2.toNat) (k := x4) (by omega) (away_y (by rw [show a2 = x6 by omega, ← hI.2.2.2.2.2.2.1]; omega) (fun m hm => hI.2.2.2.2.2.2.2 m (by omega))); omega) | (have h9 := many_f (p := fun y => awayIs (nx (s.2 6) (s.2 7)) a1 y a2.toNat) (k := x4) (by omega) (away_n1 (k := x6.toNat) (by rw [← hI.2.2.2.2.2.2.1]; omega) (by omega)); omega) | (have h9 := many_f (p := fun y => awayIs (nx (s.2 6) (s.2 7)) a1 y a2.toNat) (k := x4) (by omega) (away_n2 (by rw [show a2 = x6 by omega, ← hI.2.2.2.2.2.2.1]; omega)); omega) | grind [upI])
theorem vX3_back_11 (s : MS) (a1 : Int) (a2 : Int) (hp : tOK (s.2 6) ∧ aOK (s.2 6) (s.2 7)) (x1 : Int) (x2 : Int) (x3 : Int) (x4 : Int) (x5 : Int) (x6 : Int) (f11 : Int → Int) (f12 : Int → Int) (f13 : Int → Int) (f14 : Int → Int) (f15 : Int → Int) (f16 : Int → Int) (f17 : Int → Int) (f18 : Int → Int) (f19 : Int → Int) (k0 : Int) (k25 : Int) (k33 : Int) (k34 : Int) (hI : k0 = 0 ∧ NXO (s.2 6) (s.2 7) f13 ∧ (x1 = a1 ∧ x2 = a2 ∧ 0 ≤ a1 ∧ a1 < s.2 6 2 ∧ 0 ≤ a2 ∧ a2 ≤ 200) ∧ (0 ≤ x4 ∧ x4 < s.2 6 2) ∧ x3 = many (fun y => awayIs (nx (s.2 6) (s.2 7)) a1 y a2.toNat) x4.toNat ∧ (0 ≤ x6 ∧ x6 ≤ a2) ∧ x5 = it (nx (s.2 6) (s.2 7)) x4 x6.toNat ∧ ∀ j : Nat, j < x6 → it (nx (s.2 6) (s.2 7)) x4 j ≠ a1) (c_1 : ¬ x5 = x1) (c_4 : x2 ≤ x6) (c_5 : ¬ x5 = x1) : k0 = 0 ∧ NXO (s.2 6) (s.2 7) f13 ∧ (x1 = a1 ∧ x2 = a2 ∧ 0 ≤ a1 ∧ a1 < s.2 6 2 ∧ 0 ≤ a2 ∧ a2 ≤ 200) ∧ (0 ≤ (i32 (x4 + 1)) ∧ (i32 (x4 + 1)) ≤ s.2 6 2) ∧ (i32 (x3 + 0)) = many (fun y => awayIs (nx (s.2 6) (s.2 7)) a1 y a2.toNat) (i32 (x4 + 1)).toNat := by
  obtain ⟨ht, ha⟩ := hp
  have hN := tOK_N ht
  have hg := nx_rng (s.2 6) (s.2 7)
  (try simp only [bI_0, bI_n, Classical.not_not] at *)
  (try have hq := ‹NXO (s.2 6) (s.2 7) _›)
  (try have hq := hI.2.1)
  (try have hb := many_b (fun y => awayIs (nx (s.2 6) (s.2 7)) a1 y a2.toNat) x4.toNat)
  (try (have hw := it_b hg (x := x4) (by omega) (by omega) x6.toNat; rw [← hI.2.2.2.2.2.2.1] at hw; have hw2 := hq x5 hw.1 hw.2))
  (try unfold lex3)
  (try simp only [bI_0, bI_n, Classical.not_not] at *)
  (try simp (disch := omega) only [i32_id] at *)
  first | done | omega | ((repeat' (with_reducible apply And.intro)) <;> first | assumption | rfl | omega | (exact hI.1) | (exact hI.2.1) | (exact hq) | (unfold rBack; rw [if_neg (by omega)]) | (unfold rBack; rw [if_pos (by omega), hI.2.2.2.2, show x4 = s.2 6 2 by omega]) | (intro j hj; omega) | (rw [hw2, hI.2.2.2.2.2.2.1, show (x6 + 1).toNat = x6.toNat + 1 by omega]; rfl) | (intro j hj; by_cases e9 : j = x6.toNat; (focus (rw [e9, ← hI.2.2.2.2.2.2.1]; omega)); (focus (exact hI.2.2.2.2.2.2.2 j (by omega)))) | (have h9 := many_t (p := fun y => awayIs (nx (s.2 6) (s.2 7)) a1 y a2.toNat) (k := x4) (by omega) (away_y (by rw [show a2 = x6 by omega, ← hI.2.2.2.2.2.2.1]; omega) (fun m hm => hI.2.2.2.2.2.2.2 m (by omega))); omega) | (have h9 := many_f (p := fun y => awayIs (nx (s.2 6) (s.2 7)) a1 y a2.toNat) (k := x4) (by omega) (away_n1 (k := x6.toNat) (by rw [← hI.2.2.2.2.2.2.1]; omega) (by omega)); omega) | (have h9 := many_f (p := fun y => awayIs (nx (s.2 6) (s.2 7)) a1 y a2.toNat) (k := x4) (by omega) (away_n2 (by rw [show a2 = x6 by omega, ← hI.2.2.2.2.2.2.1]; omega)); omega) | grind [upI])
theorem vX3_back_12 (s : MS) (a1 : Int) (a2 : Int) (hp : tOK (s.2 6) ∧ aOK (s.2 6) (s.2 7)) (x1 : Int) (x2 : Int) (x3 : Int) (x4 : Int) (x5 : Int) (x6 : Int) (f11 : Int → Int) (f12 : Int → Int) (f13 : Int → Int) (f14 : Int → Int) (f15 : Int → Int) (f16 : Int → Int) (f17 : Int → Int) (f18 : Int → Int) (f19 : Int → Int) (k0 : Int) (k25 : Int) (k33 : Int) (k34 : Int) (hI : k0 = 0 ∧ NXO (s.2 6) (s.2 7) f13 ∧ (x1 = a1 ∧ x2 = a2 ∧ 0 ≤ a1 ∧ a1 < s.2 6 2 ∧ 0 ≤ a2 ∧ a2 ≤ 200) ∧ (0 ≤ x4 ∧ x4 < s.2 6 2) ∧ x3 = many (fun y => awayIs (nx (s.2 6) (s.2 7)) a1 y a2.toNat) x4.toNat ∧ (0 ≤ x6 ∧ x6 ≤ a2) ∧ x5 = it (nx (s.2 6) (s.2 7)) x4 x6.toNat ∧ ∀ j : Nat, j < x6 → it (nx (s.2 6) (s.2 7)) x4 j ≠ a1) (c_1 : ¬ x5 = x1) (c_4 : x2 ≤ x6) (c_5 : ¬ x5 = x1) : lex3 0 ((s.2 6 2 - (i32 (x4 + 1))).toNat) 0 0 ((s.2 6 2 - x4).toNat - 1) ((a2 - x6).toNat + 1) := by
  obtain ⟨ht, ha⟩ := hp
  have hN := tOK_N ht
  have hg := nx_rng (s.2 6) (s.2 7)
  (try simp only [bI_0, bI_n, Classical.not_not] at *)
  (try have hq := ‹NXO (s.2 6) (s.2 7) _›)
  (try have hq := hI.2.1)
  (try have hb := many_b (fun y => awayIs (nx (s.2 6) (s.2 7)) a1 y a2.toNat) x4.toNat)
  (try (have hw := it_b hg (x := x4) (by omega) (by omega) x6.toNat; rw [← hI.2.2.2.2.2.2.1] at hw; have hw2 := hq x5 hw.1 hw.2))
  (try unfold lex3)
  (try simp only [bI_0, bI_n, Classical.not_not] at *)
  (try simp (disch := omega) only [i32_id] at *)
  first | done | omega | ((repeat' (with_reducible apply And.intro)) <;> first | assumption | rfl | omega | (exact hI.1) | (exact hI.2.1) | (exact hq) | (unfold rBack; rw [if_neg (by omega)]) | (unfold rBack; rw [if_pos (by omega), hI.2.2.2.2, show x4 = s.2 6 2 by omega]) | (intro j hj; omega) | (rw [hw2, hI.2.2.2.2.2.2.1, show (x6 + 1).toNat = x6.toNat + 1 by omega]; rfl) | (intro j hj; by_cases e9 : j = x6.toNat; (focus (rw [e9, ← hI.2.2.2.2.2.2.1]; omega)); (focus (exact hI.2.2.2.2.2.2.2 j (by omega)))) | (have h9 := many_t (p := fun y => awayIs (nx (s.2 6) (s.2 7)) a1 y a2.toNat) (k := x4) (by omega) (away_y (by rw [show a2 = x6 by omega, ← hI.2.2.2.2.2.2.1]; omega) (fun m hm => hI.2.2.2.2.2.2.2 m (by omega))); omega) | (have h9 := many_f (p := fun y => awayIs (nx (s.2 6) (s.2 7)) a1 y a2.toNat) (k := x4) (by omega) (away_n1 (k := x6.toNat) (by rw [← hI.2.2.2.2.2.2.1]; omega) (by omega)); omega) | (have h9 := many_f (p := fun y => awayIs (nx (s.2 6) (s.2 7)) a1 y a2.toNat) (k := x4) (by omega) (away_n2 (by rw [show a2 = x6 by omega, ← hI.2.2.2.2.2.2.1]; omega)); omega) | grind [upI])
theorem vX3_back_13 (s : MS) (a1 : Int) (a2 : Int) (hp : tOK (s.2 6) ∧ aOK (s.2 6) (s.2 7)) (x1 : Int) (x2 : Int) (x3 : Int) (x4 : Int) (x5 : Int) (x6 : Int) (f11 : Int → Int) (f12 : Int → Int) (f13 : Int → Int) (f14 : Int → Int) (f15 : Int → Int) (f16 : Int → Int) (f17 : Int → Int) (f18 : Int → Int) (f19 : Int → Int) (k0 : Int) (k25 : Int) (k33 : Int) (k34 : Int) (hI : k0 = 0 ∧ NXO (s.2 6) (s.2 7) f13 ∧ (x1 = a1 ∧ x2 = a2 ∧ 0 ≤ a1 ∧ a1 < s.2 6 2 ∧ 0 ≤ a2 ∧ a2 ≤ 200) ∧ (0 ≤ x4 ∧ x4 < s.2 6 2) ∧ x3 = many (fun y => awayIs (nx (s.2 6) (s.2 7)) a1 y a2.toNat) x4.toNat ∧ (0 ≤ x6 ∧ x6 ≤ a2) ∧ x5 = it (nx (s.2 6) (s.2 7)) x4 x6.toNat ∧ ∀ j : Nat, j < x6 → it (nx (s.2 6) (s.2 7)) x4 j ≠ a1) (c_1 : ¬ x5 = x1) (c_4 : x2 ≤ x6) (c_5 : x5 = x1) (c_6 : ¬ x6 = x2) : k0 = 0 ∧ NXO (s.2 6) (s.2 7) f13 ∧ (x1 = a1 ∧ x2 = a2 ∧ 0 ≤ a1 ∧ a1 < s.2 6 2 ∧ 0 ≤ a2 ∧ a2 ≤ 200) ∧ (0 ≤ (i32 (x4 + 1)) ∧ (i32 (x4 + 1)) ≤ s.2 6 2) ∧ (i32 (x3 + 0)) = many (fun y => awayIs (nx (s.2 6) (s.2 7)) a1 y a2.toNat) (i32 (x4 + 1)).toNat := by
  obtain ⟨ht, ha⟩ := hp
  have hN := tOK_N ht
  have hg := nx_rng (s.2 6) (s.2 7)
  (try simp only [bI_0, bI_n, Classical.not_not] at *)
  (try have hq := ‹NXO (s.2 6) (s.2 7) _›)
  (try have hq := hI.2.1)
  (try have hb := many_b (fun y => awayIs (nx (s.2 6) (s.2 7)) a1 y a2.toNat) x4.toNat)
  (try (have hw := it_b hg (x := x4) (by omega) (by omega) x6.toNat; rw [← hI.2.2.2.2.2.2.1] at hw; have hw2 := hq x5 hw.1 hw.2))
  (try unfold lex3)
  (try simp only [bI_0, bI_n, Classical.not_not] at *)
  (try simp (disch := omega) only [i32_id] at *)
  first | done | omega | ((repeat' (with_reducible apply And.intro)) <;> first | assumption | rfl | omega | (exact hI.1) | (exact hI.2.1) | (exact hq) | (unfold rBack; rw [if_neg (by omega)]) | (unfold rBack; rw [if_pos (by omega), hI.2.2.2.2, show x4 = s.2 6 2 by omega]) | (intro j hj; omega) | (rw [hw2, hI.2.2.2.2.2.2.1, show (x6 + 1).toNat = x6.toNat + 1 by omega]; rfl) | (intro j hj; by_cases e9 : j = x6.toNat; (focus (rw [e9, ← hI.2.2.2.2.2.2.1]; omega)); (focus (exact hI.2.2.2.2.2.2.2 j (by omega)))) | (have h9 := many_t (p := fun y => awayIs (nx (s.2 6) (s.2 7)) a1 y a2.toNat) (k := x4) (by omega) (away_y (by rw [show a2 = x6 by omega, ← hI.2.2.2.2.2.2.1]; omega) (fun m hm => hI.2.2.2.2.2.2.2 m (by omega))); omega) | (have h9 := many_f (p := fun y => awayIs (nx (s.2 6) (s.2 7)) a1 y a2.toNat) (k := x4) (by omega) (away_n1 (k := x6.toNat) (by rw [← hI.2.2.2.2.2.2.1]; omega) (by omega)); omega) | (have h9 := many_f (p := fun y => awayIs (nx (s.2 6) (s.2 7)) a1 y a2.toNat) (k := x4) (by omega) (away_n2 (by rw [show a2 = x6 by omega, ← hI.2.2.2.2.2.2.1]; omega)); omega) | grind [upI])
theorem vX3_back_14 (s : MS) (a1 : Int) (a2 : Int) (hp : tOK (s.2 6) ∧ aOK (s.2 6) (s.2 7)) (x1 : Int) (x2 : Int) (x3 : Int) (x4 : Int) (x5 : Int) (x6 : Int) (f11 : Int → Int) (f12 : Int → Int) (f13 : Int → Int) (f14 : Int → Int) (f15 : Int → Int) (f16 : Int → Int) (f17 : Int → Int) (f18 : Int → Int) (f19 : Int → Int) (k0 : Int) (k25 : Int) (k33 : Int) (k34 : Int) (hI : k0 = 0 ∧ NXO (s.2 6) (s.2 7) f13 ∧ (x1 = a1 ∧ x2 = a2 ∧ 0 ≤ a1 ∧ a1 < s.2 6 2 ∧ 0 ≤ a2 ∧ a2 ≤ 200) ∧ (0 ≤ x4 ∧ x4 < s.2 6 2) ∧ x3 = many (fun y => awayIs (nx (s.2 6) (s.2 7)) a1 y a2.toNat) x4.toNat ∧ (0 ≤ x6 ∧ x6 ≤ a2) ∧ x5 = it (nx (s.2 6) (s.2 7)) x4 x6.toNat ∧ ∀ j : Nat, j < x6 → it (nx (s.2 6) (s.2 7)) x4 j ≠ a1) (c_1 : ¬ x5 = x1) (c_4 : x2 ≤ x6) (c_5 : x5 = x1) (c_6 : ¬ x6 = x2) : lex3 0 ((s.2 6 2 - (i32 (x4 + 1))).toNat) 0 0 ((s.2 6 2 - x4).toNat - 1) ((a2 - x6).toNat + 1) := by
  obtain ⟨ht, ha⟩ := hp
  have hN := tOK_N ht
  have hg := nx_rng (s.2 6) (s.2 7)
  (try simp only [bI_0, bI_n, Classical.not_not] at *)
  (try have hq := ‹NXO (s.2 6) (s.2 7) _›)
  (try have hq := hI.2.1)
  (try have hb := many_b (fun y => awayIs (nx (s.2 6) (s.2 7)) a1 y a2.toNat) x4.toNat)
  (try (have hw := it_b hg (x := x4) (by omega) (by omega) x6.toNat; rw [← hI.2.2.2.2.2.2.1] at hw; have hw2 := hq x5 hw.1 hw.2))
  (try unfold lex3)
  (try simp only [bI_0, bI_n, Classical.not_not] at *)
  (try simp (disch := omega) only [i32_id] at *)
  first | done | omega | ((repeat' (with_reducible apply And.intro)) <;> first | assumption | rfl | omega | (exact hI.1) | (exact hI.2.1) | (exact hq) | (unfold rBack; rw [if_neg (by omega)]) | (unfold rBack; rw [if_pos (by omega), hI.2.2.2.2, show x4 = s.2 6 2 by omega]) | (intro j hj; omega) | (rw [hw2, hI.2.2.2.2.2.2.1, show (x6 + 1).toNat = x6.toNat + 1 by omega]; rfl) | (intro j hj; by_cases e9 : j = x6.toNat; (focus (rw [e9, ← hI.2.2.2.2.2.2.1]; omega)); (focus (exact hI.2.2.2.2.2.2.2 j (by omega)))) | (have h9 := many_t (p := fun y => awayIs (nx (s.2 6) (s.2 7)) a1 y a2.toNat) (k := x4) (by omega) (away_y (by rw [show a2 = x6 by omega, ← hI.2.2.2.2.2.2.1]; omega) (fun m hm => hI.2.2.2.2.2.2.2 m (by omega))); omega) | (have h9 := many_f (p := fun y => awayIs (nx (s.2 6) (s.2 7)) a1 y a2.toNat) (k := x4) (by omega) (away_n1 (k := x6.toNat) (by rw [← hI.2.2.2.2.2.2.1]; omega) (by omega)); omega) | (have h9 := many_f (p := fun y => awayIs (nx (s.2 6) (s.2 7)) a1 y a2.toNat) (k := x4) (by omega) (away_n2 (by rw [show a2 = x6 by omega, ← hI.2.2.2.2.2.2.1]; omega)); omega) | grind [upI])
theorem vX3_back_15 (s : MS) (a1 : Int) (a2 : Int) (hp : tOK (s.2 6) ∧ aOK (s.2 6) (s.2 7)) (x1 : Int) (x2 : Int) (x3 : Int) (x4 : Int) (x5 : Int) (x6 : Int) (f11 : Int → Int) (f12 : Int → Int) (f13 : Int → Int) (f14 : Int → Int) (f15 : Int → Int) (f16 : Int → Int) (f17 : Int → Int) (f18 : Int → Int) (f19 : Int → Int) (k0 : Int) (k25 : Int) (k33 : Int) (k34 : Int) (hI : k0 = 0 ∧ NXO (s.2 6) (s.2 7) f13 ∧ (x1 = a1 ∧ x2 = a2 ∧ 0 ≤ a1 ∧ a1 < s.2 6 2 ∧ 0 ≤ a2 ∧ a2 ≤ 200) ∧ (0 ≤ x4 ∧ x4 < s.2 6 2) ∧ x3 = many (fun y => awayIs (nx (s.2 6) (s.2 7)) a1 y a2.toNat) x4.toNat ∧ (0 ≤ x6 ∧ x6 ≤ a2) ∧ x5 = it (nx (s.2 6) (s.2 7)) x4 x6.toNat ∧ ∀ j : Nat, j < x6 → it (nx (s.2 6) (s.2 7)) x4 j ≠ a1) (c_1 : ¬ x5 = x1) (c_4 : x2 ≤ x6) (c_5 : x5 = x1) (c_6 : x6 = x2) : k0 = 0 ∧ NXO (s.2 6) (s.2 7) f13 ∧ (x1 = a1 ∧ x2 = a2 ∧ 0 ≤ a1 ∧ a1 < s.2 6 2 ∧ 0 ≤ a2 ∧ a2 ≤ 200) ∧ (0 ≤ (i32 (x4 + 1)) ∧ (i32 (x4 + 1)) ≤ s.2 6 2) ∧ (i32 (x3 + 1)) = many (fun y => awayIs (nx (s.2 6) (s.2 7)) a1 y a2.toNat) (i32 (x4 + 1)).toNat := by
  obtain ⟨ht, ha⟩ := hp
  have hN := tOK_N ht
  have hg := nx_rng (s.2 6) (s.2 7)
  (try simp only [bI_0, bI_n, Classical.not_not] at *)
  (try have hq := ‹NXO (s.2 6) (s.2 7) _›)
  (try have hq := hI.2.1)
  (try have hb := many_b (fun y => awayIs (nx (s.2 6) (s.2 7)) a1 y a2.toNat) x4.toNat)
  (try (have hw := it_b hg (x := x4) (by omega) (by omega) x6.toNat; rw [← hI.2.2.2.2.2.2.1] at hw; have hw2 := hq x5 hw.1 hw.2))
  (try unfold lex3)
  (try simp only [bI_0, bI_n, Classical.not_not] at *)
  (try simp (disch := omega) only [i32_id] at *)
  first | done | omega | ((repeat' (with_reducible apply And.intro)) <;> first | assumption | rfl | omega | (exact hI.1) | (exact hI.2.1) | (exact hq) | (unfold rBack; rw [if_neg (by omega)]) | (unfold rBack; rw [if_pos (by omega), hI.2.2.2.2, show x4 = s.2 6 2 by omega]) | (intro j hj; omega) | (rw [hw2, hI.2.2.2.2.2.2.1, show (x6 + 1).toNat = x6.toNat + 1 by omega]; rfl) | (intro j hj; by_cases e9 : j = x6.toNat; (focus (rw [e9, ← hI.2.2.2.2.2.2.1]; omega)); (focus (exact hI.2.2.2.2.2.2.2 j (by omega)))) | (have h9 := many_t (p := fun y => awayIs (nx (s.2 6) (s.2 7)) a1 y a2.toNat) (k := x4) (by omega) (away_y (by rw [show a2 = x6 by omega, ← hI.2.2.2.2.2.2.1]; omega) (fun m hm => hI.2.2.2.2.2.2.2 m (by omega))); omega) | (have h9 := many_f (p := fun y => awayIs (nx (s.2 6) (s.2 7)) a1 y a2.toNat) (k := x4) (by omega) (away_n1 (k := x6.toNat) (by rw [← hI.2.2.2.2.2.2.1]; omega) (by omega)); omega) | (have h9 := many_f (p := fun y => awayIs (nx (s.2 6) (s.2 7)) a1 y a2.toNat) (k := x4) (by omega) (away_n2 (by rw [show a2 = x6 by omega, ← hI.2.2.2.2.2.2.1]; omega)); omega) | grind [upI])
theorem vX3_back_16 (s : MS) (a1 : Int) (a2 : Int) (hp : tOK (s.2 6) ∧ aOK (s.2 6) (s.2 7)) (x1 : Int) (x2 : Int) (x3 : Int) (x4 : Int) (x5 : Int) (x6 : Int) (f11 : Int → Int) (f12 : Int → Int) (f13 : Int → Int) (f14 : Int → Int) (f15 : Int → Int) (f16 : Int → Int) (f17 : Int → Int) (f18 : Int → Int) (f19 : Int → Int) (k0 : Int) (k25 : Int) (k33 : Int) (k34 : Int) (hI : k0 = 0 ∧ NXO (s.2 6) (s.2 7) f13 ∧ (x1 = a1 ∧ x2 = a2 ∧ 0 ≤ a1 ∧ a1 < s.2 6 2 ∧ 0 ≤ a2 ∧ a2 ≤ 200) ∧ (0 ≤ x4 ∧ x4 < s.2 6 2) ∧ x3 = many (fun y => awayIs (nx (s.2 6) (s.2 7)) a1 y a2.toNat) x4.toNat ∧ (0 ≤ x6 ∧ x6 ≤ a2) ∧ x5 = it (nx (s.2 6) (s.2 7)) x4 x6.toNat ∧ ∀ j : Nat, j < x6 → it (nx (s.2 6) (s.2 7)) x4 j ≠ a1) (c_1 : ¬ x5 = x1) (c_4 : x2 ≤ x6) (c_5 : x5 = x1) (c_6 : x6 = x2) : lex3 0 ((s.2 6 2 - (i32 (x4 + 1))).toNat) 0 0 ((s.2 6 2 - x4).toNat - 1) ((a2 - x6).toNat + 1) := by
  obtain ⟨ht, ha⟩ := hp
  have hN := tOK_N ht
  have hg := nx_rng (s.2 6) (s.2 7)
  (try simp only [bI_0, bI_n, Classical.not_not] at *)
  (try have hq := ‹NXO (s.2 6) (s.2 7) _›)
  (try have hq := hI.2.1)
  (try have hb := many_b (fun y => awayIs (nx (s.2 6) (s.2 7)) a1 y a2.toNat) x4.toNat)
  (try (have hw := it_b hg (x := x4) (by omega) (by omega) x6.toNat; rw [← hI.2.2.2.2.2.2.1] at hw; have hw2 := hq x5 hw.1 hw.2))
  (try unfold lex3)
  (try simp only [bI_0, bI_n, Classical.not_not] at *)
  (try simp (disch := omega) only [i32_id] at *)
  first | done | omega | ((repeat' (with_reducible apply And.intro)) <;> first | assumption | rfl | omega | (exact hI.1) | (exact hI.2.1) | (exact hq) | (unfold rBack; rw [if_neg (by omega)]) | (unfold rBack; rw [if_pos (by omega), hI.2.2.2.2, show x4 = s.2 6 2 by omega]) | (intro j hj; omega) | (rw [hw2, hI.2.2.2.2.2.2.1, show (x6 + 1).toNat = x6.toNat + 1 by omega]; rfl) | (intro j hj; by_cases e9 : j = x6.toNat; (focus (rw [e9, ← hI.2.2.2.2.2.2.1]; omega)); (focus (exact hI.2.2.2.2.2.2.2 j (by omega)))) | (have h9 := many_t (p := fun y => awayIs (nx (s.2 6) (s.2 7)) a1 y a2.toNat) (k := x4) (by omega) (away_y (by rw [show a2 = x6 by omega, ← hI.2.2.2.2.2.2.1]; omega) (fun m hm => hI.2.2.2.2.2.2.2 m (by omega))); omega) | (have h9 := many_f (p := fun y => awayIs (nx (s.2 6) (s.2 7)) a1 y a2.toNat) (k := x4) (by omega) (away_n1 (k := x6.toNat) (by rw [← hI.2.2.2.2.2.2.1]; omega) (by omega)); omega) | (have h9 := many_f (p := fun y => awayIs (nx (s.2 6) (s.2 7)) a1 y a2.toNat) (k := x4) (by omega) (away_n2 (by rw [show a2 = x6 by omega, ← hI.2.2.2.2.2.2.1]; omega)); omega) | grind [upI])
theorem vX3_back_17 (s : MS) (a1 : Int) (a2 : Int) (hp : tOK (s.2 6) ∧ aOK (s.2 6) (s.2 7)) (x1 : Int) (x2 : Int) (x3 : Int) (x4 : Int) (x5 : Int) (x6 : Int) (f11 : Int → Int) (f12 : Int → Int) (f13 : Int → Int) (f14 : Int → Int) (f15 : Int → Int) (f16 : Int → Int) (f17 : Int → Int) (f18 : Int → Int) (f19 : Int → Int) (k0 : Int) (k25 : Int) (k33 : Int) (k34 : Int) (hI : k0 = 0 ∧ NXO (s.2 6) (s.2 7) f13 ∧ (x1 = a1 ∧ x2 = a2 ∧ 0 ≤ a1 ∧ a1 < s.2 6 2 ∧ 0 ≤ a2 ∧ a2 ≤ 200) ∧ (0 ≤ x4 ∧ x4 < s.2 6 2) ∧ x3 = many (fun y => awayIs (nx (s.2 6) (s.2 7)) a1 y a2.toNat) x4.toNat ∧ (0 ≤ x6 ∧ x6 ≤ a2) ∧ x5 = it (nx (s.2 6) (s.2 7)) x4 x6.toNat ∧ ∀ j : Nat, j < x6 → it (nx (s.2 6) (s.2 7)) x4 j ≠ a1) (c_1 : ¬ x5 = x1) (c_4 : ¬ x2 ≤ x6) : (0 ≤ x5 ∧ x5 < 10000) := by
  obtain ⟨ht, ha⟩ := hp
  have hN := tOK_N ht
  have hg := nx_rng (s.2 6) (s.2 7)
  (try simp only [bI_0, bI_n, Classical.not_not] at *)
  (try have hq := ‹NXO (s.2 6) (s.2 7) _›)
  (try have hq := hI.2.1)
  (try have hb := many_b (fun y => awayIs (nx (s.2 6) (s.2 7)) a1 y a2.toNat) x4.toNat)
  (try (have hw := it_b hg (x := x4) (by omega) (by omega) x6.toNat; rw [← hI.2.2.2.2.2.2.1] at hw; have hw2 := hq x5 hw.1 hw.2))
  (try unfold lex3)
  (try simp only [bI_0, bI_n, Classical.not_not] at *)
  (try simp (disch := omega) only [i32_id] at *)
  first | done | omega | ((repeat' (with_reducible apply And.intro)) <;> first | assumption | rfl | omega | (exact hI.1) | (exact hI.2.1) | (exact hq) | (unfold rBack; rw [if_neg (by omega)]) | (unfold rBack; rw [if_pos (by omega), hI.2.2.2.2, show x4 = s.2 6 2 by omega]) | (intro j hj; omega) | (rw [hw2, hI.2.2.2.2.2.2.1, show (x6 + 1).toNat = x6.toNat + 1 by omega]; rfl) | (intro j hj; by_cases e9 : j = x6.toNat; (focus (rw [e9, ← hI.2.2.2.2.2.2.1]; omega)); (focus (exact hI.2.2.2.2.2.2.2 j (by omega)))) | (have h9 := many_t (p := fun y => awayIs (nx (s.2 6) (s.2 7)) a1 y a2.toNat) (k := x4) (by omega) (away_y (by rw [show a2 = x6 by omega, ← hI.2.2.2.2.2.2.1]; omega) (fun m hm => hI.2.2.2.2.2.2.2 m (by omega))); omega) | (have h9 := many_f (p := fun y => awayIs (nx (s.2 6) (s.2 7)) a1 y a2.toNat) (k := x4) (by omega) (away_n1 (k := x6.toNat) (by rw [← hI.2.2.2.2.2.2.1]; omega) (by omega)); omega) | (have h9 := many_f (p := fun y => awayIs (nx (s.2 6) (s.2 7)) a1 y a2.toNat) (k := x4) (by omega) (away_n2 (by rw [show a2 = x6 by omega, ← hI.2.2.2.2.2.2.1]; omega)); omega) | grind [upI])
theorem vX3_back_18 (s : MS) (a1 : Int) (a2 : Int) (hp : tOK (s.2 6) ∧ aOK (s.2 6) (s.2 7)) (x1 : Int) (x2 : Int) (x3 : Int) (x4 : Int) (x5 : Int) (x6 : Int) (f11 : Int → Int) (f12 : Int → Int) (f13 : Int → Int) (f14 : Int → Int) (f15 : Int → Int) (f16 : Int → Int) (f17 : Int → Int) (f18 : Int → Int) (f19 : Int → Int) (k0 : Int) (k25 : Int) (k33 : Int) (k34 : Int) (hI : k0 = 0 ∧ NXO (s.2 6) (s.2 7) f13 ∧ (x1 = a1 ∧ x2 = a2 ∧ 0 ≤ a1 ∧ a1 < s.2 6 2 ∧ 0 ≤ a2 ∧ a2 ≤ 200) ∧ (0 ≤ x4 ∧ x4 < s.2 6 2) ∧ x3 = many (fun y => awayIs (nx (s.2 6) (s.2 7)) a1 y a2.toNat) x4.toNat ∧ (0 ≤ x6 ∧ x6 ≤ a2) ∧ x5 = it (nx (s.2 6) (s.2 7)) x4 x6.toNat ∧ ∀ j : Nat, j < x6 → it (nx (s.2 6) (s.2 7)) x4 j ≠ a1) (c_1 : ¬ x5 = x1) (c_4 : ¬ x2 ≤ x6) (o_7 : (0 ≤ x5 ∧ x5 < 10000)) : k0 = 0 ∧ NXO (s.2 6) (s.2 7) f13 ∧ (x1 = a1 ∧ x2 = a2 ∧ 0 ≤ a1 ∧ a1 < s.2 6 2 ∧ 0 ≤ a2 ∧ a2 ≤ 200) ∧ (0 ≤ x4 ∧ x4 < s.2 6 2) ∧ x3 = many (fun y => awayIs (nx (s.2 6) (s.2 7)) a1 y a2.toNat) x4.toNat ∧ (0 ≤ (i32 (x6 + 1)) ∧ (i32 (x6 + 1)) ≤ a2) ∧ (f13 x5) = it (nx (s.2 6) (s.2 7)) x4 (i32 (x6 + 1)).toNat ∧ ∀ j : Nat, j < (i32 (x6 + 1)) → it (nx (s.2 6) (s.2 7)) x4 j ≠ a1 := by
  obtain ⟨ht, ha⟩ := hp
  have hN := tOK_N ht
  have hg := nx_rng (s.2 6) (s.2 7)
  (try simp only [bI_0, bI_n, Classical.not_not] at *)
  (try have hq := ‹NXO (s.2 6) (s.2 7) _›)
  (try have hq := hI.2.1)
  (try have hb := many_b (fun y => awayIs (nx (s.2 6) (s.2 7)) a1 y a2.toNat) x4.toNat)
  (try (have hw := it_b hg (x := x4) (by omega) (by omega) x6.toNat; rw [← hI.2.2.2.2.2.2.1] at hw; have hw2 := hq x5 hw.1 hw.2))
  (try unfold lex3)
  (try simp only [bI_0, bI_n, Classical.not_not] at *)
  (try simp (disch := omega) only [i32_id] at *)
  first | done | omega | ((repeat' (with_reducible apply And.intro)) <;> first | assumption | rfl | omega | (exact hI.1) | (exact hI.2.1) | (exact hq) | (unfold rBack; rw [if_neg (by omega)]) | (unfold rBack; rw [if_pos (by omega), hI.2.2.2.2, show x4 = s.2 6 2 by omega]) | (intro j hj; omega) | (rw [hw2, hI.2.2.2.2.2.2.1, show (x6 + 1).toNat = x6.toNat + 1 by omega]; rfl) | (intro j hj; by_cases e9 : j = x6.toNat; (focus (rw [e9, ← hI.2.2.2.2.2.2.1]; omega)); (focus (exact hI.2.2.2.2.2.2.2 j (by omega)))) | (have h9 := many_t (p := fun y => awayIs (nx (s.2 6) (s.2 7)) a1 y a2.toNat) (k := x4) (by omega) (away_y (by rw [show a2 = x6 by omega, ← hI.2.2.2.2.2.2.1]; omega) (fun m hm => hI.2.2.2.2.2.2.2 m (by omega))); omega) | (have h9 := many_f (p := fun y => awayIs (nx (s.2 6) (s.2 7)) a1 y a2.toNat) (k := x4) (by omega) (away_n1 (k := x6.toNat) (by rw [← hI.2.2.2.2.2.2.1]; omega) (by omega)); omega) | (have h9 := many_f (p := fun y => awayIs (nx (s.2 6) (s.2 7)) a1 y a2.toNat) (k := x4) (by omega) (away_n2 (by rw [show a2 = x6 by omega, ← hI.2.2.2.2.2.2.1]; omega)); omega) | grind [upI])
theorem vX3_back_19 (s : MS) (a1 : Int) (a2 : Int) (hp : tOK (s.2 6) ∧ aOK (s.2 6) (s.2 7)) (x1 : Int) (x2 : Int) (x3 : Int) (x4 : Int) (x5 : Int) (x6 : Int) (f11 : Int → Int) (f12 : Int → Int) (f13 : Int → Int) (f14 : Int → Int) (f15 : Int → Int) (f16 : Int → Int) (f17 : Int → Int) (f18 : Int → Int) (f19 : Int → Int) (k0 : Int) (k25 : Int) (k33 : Int) (k34 : Int) (hI : k0 = 0 ∧ NXO (s.2 6) (s.2 7) f13 ∧ (x1 = a1 ∧ x2 = a2 ∧ 0 ≤ a1 ∧ a1 < s.2 6 2 ∧ 0 ≤ a2 ∧ a2 ≤ 200) ∧ (0 ≤ x4 ∧ x4 < s.2 6 2) ∧ x3 = many (fun y => awayIs (nx (s.2 6) (s.2 7)) a1 y a2.toNat) x4.toNat ∧ (0 ≤ x6 ∧ x6 ≤ a2) ∧ x5 = it (nx (s.2 6) (s.2 7)) x4 x6.toNat ∧ ∀ j : Nat, j < x6 → it (nx (s.2 6) (s.2 7)) x4 j ≠ a1) (c_1 : ¬ x5 = x1) (c_4 : ¬ x2 ≤ x6) (o_7 : (0 ≤ x5 ∧ x5 < 10000)) : lex3 0 ((s.2 6 2 - x4).toNat - 1) ((a2 - (i32 (x6 + 1))).toNat + 1) 0 ((s.2 6 2 - x4).toNat - 1) ((a2 - x6).toNat + 1) := by
  obtain ⟨ht, ha⟩ := hp
  have hN := tOK_N ht
  have hg := nx_rng (s.2 6) (s.2 7)
  (try simp only [bI_0, bI_n, Classical.not_not] at *)
  (try have hq := ‹NXO (s.2 6) (s.2 7) _›)
  (try have hq := hI.2.1)
  (try have hb := many_b (fun y => awayIs (nx (s.2 6) (s.2 7)) a1 y a2.toNat) x4.toNat)
  (try (have hw := it_b hg (x := x4) (by omega) (by omega) x6.toNat; rw [← hI.2.2.2.2.2.2.1] at hw; have hw2 := hq x5 hw.1 hw.2))
  (try unfold lex3)
  (try simp only [bI_0, bI_n, Classical.not_not] at *)
  (try simp (disch := omega) only [i32_id] at *)
  first | done | omega | ((repeat' (with_reducible apply And.intro)) <;> first | assumption | rfl | omega | (exact hI.1) | (exact hI.2.1) | (exact hq) | (unfold rBack; rw [if_neg (by omega)]) | (unfold rBack; rw [if_pos (by omega), hI.2.2.2.2, show x4 = s.2 6 2 by omega]) | (intro j hj; omega) | (rw [hw2, hI.2.2.2.2.2.2.1, show (x6 + 1).toNat = x6.toNat + 1 by omega]; rfl) | (intro j hj; by_cases e9 : j = x6.toNat; (focus (rw [e9, ← hI.2.2.2.2.2.2.1]; omega)); (focus (exact hI.2.2.2.2.2.2.2 j (by omega)))) | (have h9 := many_t (p := fun y => awayIs (nx (s.2 6) (s.2 7)) a1 y a2.toNat) (k := x4) (by omega) (away_y (by rw [show a2 = x6 by omega, ← hI.2.2.2.2.2.2.1]; omega) (fun m hm => hI.2.2.2.2.2.2.2 m (by omega))); omega) | (have h9 := many_f (p := fun y => awayIs (nx (s.2 6) (s.2 7)) a1 y a2.toNat) (k := x4) (by omega) (away_n1 (k := x6.toNat) (by rw [← hI.2.2.2.2.2.2.1]; omega) (by omega)); omega) | (have h9 := many_f (p := fun y => awayIs (nx (s.2 6) (s.2 7)) a1 y a2.toNat) (k := x4) (by omega) (away_n2 (by rw [show a2 = x6 by omega, ← hI.2.2.2.2.2.2.1]; omega)); omega) | grind [upI])
theorem vX3_back_20 (s : MS) (a1 : Int) (a2 : Int) (hp : tOK (s.2 6) ∧ aOK (s.2 6) (s.2 7)) : (tOK (s.2 6)) := by
  obtain ⟨ht, ha⟩ := hp
  have hN := tOK_N ht
  have hg := nx_rng (s.2 6) (s.2 7)
  (try simp only [bI_0, bI_n, Classical.not_not] at *)
  (try have hq := ‹NXO (s.2 6) (s.2 7) _›)
  (try have hq := hI.2.1)
  (try have hb := many_b (fun y => awayIs (nx (s.2 6) (s.2 7)) a1 y a2.toNat) x4.toNat)
  (try (have hw := it_b hg (x := x4) (by omega) (by omega) x6.toNat; rw [← hI.2.2.2.2.2.2.1] at hw; have hw2 := hq x5 hw.1 hw.2))
  (try unfold lex3)
  (try simp only [bI_0, bI_n, Classical.not_not] at *)
  (try simp (disch := omega) only [i32_id] at *)
  first | done | omega | ((repeat' (with_reducible apply And.intro)) <;> first | assumption | rfl | omega | (exact hI.1) | (exact hI.2.1) | (exact hq) | (unfold rBack; rw [if_neg (by omega)]) | (unfold rBack; rw [if_pos (by omega), hI.2.2.2.2, show x4 = s.2 6 2 by omega]) | (intro j hj; omega) | (rw [hw2, hI.2.2.2.2.2.2.1, show (x6 + 1).toNat = x6.toNat + 1 by omega]; rfl) | (intro j hj; by_cases e9 : j = x6.toNat; (focus (rw [e9, ← hI.2.2.2.2.2.2.1]; omega)); (focus (exact hI.2.2.2.2.2.2.2 j (by omega)))) | (have h9 := many_t (p := fun y => awayIs (nx (s.2 6) (s.2 7)) a1 y a2.toNat) (k := x4) (by omega) (away_y (by rw [show a2 = x6 by omega, ← hI.2.2.2.2.2.2.1]; omega) (fun m hm => hI.2.2.2.2.2.2.2 m (by omega))); omega) | (have h9 := many_f (p := fun y => awayIs (nx (s.2 6) (s.2 7)) a1 y a2.toNat) (k := x4) (by omega) (away_n1 (k := x6.toNat) (by rw [← hI.2.2.2.2.2.2.1]; omega) (by omega)); omega) | (have h9 := many_f (p := fun y => awayIs (nx (s.2 6) (s.2 7)) a1 y a2.toNat) (k := x4) (by omega) (away_n2 (by rw [show a2 = x6 by omega, ← hI.2.2.2.2.2.2.1]; omega)); omega) | grind [upI])
theorem vX3_back_21 (s : MS) (a1 : Int) (a2 : Int) (hp : tOK (s.2 6) ∧ aOK (s.2 6) (s.2 7)) (o_1 : (tOK (s.2 6))) (c_3 : (bI (0 ≤ a1 ∧ a1 < (s.2 6) 2)) = 0) : (-2) = (rBack (s.2 6) (s.2 7) a1 a2) := by
  obtain ⟨ht, ha⟩ := hp
  have hN := tOK_N ht
  have hg := nx_rng (s.2 6) (s.2 7)
  (try simp only [bI_0, bI_n, Classical.not_not] at *)
  (try have hq := ‹NXO (s.2 6) (s.2 7) _›)
  (try have hq := hI.2.1)
  (try have hb := many_b (fun y => awayIs (nx (s.2 6) (s.2 7)) a1 y a2.toNat) x4.toNat)
  (try (have hw := it_b hg (x := x4) (by omega) (by omega) x6.toNat; rw [← hI.2.2.2.2.2.2.1] at hw; have hw2 := hq x5 hw.1 hw.2))
  (try unfold lex3)
  (try simp only [bI_0, bI_n, Classical.not_not] at *)
  (try simp (disch := omega) only [i32_id] at *)
  first | done | omega | ((repeat' (with_reducible apply And.intro)) <;> first | assumption | rfl | omega | (exact hI.1) | (exact hI.2.1) | (exact hq) | (unfold rBack; rw [if_neg (by omega)]) | (unfold rBack; rw [if_pos (by omega), hI.2.2.2.2, show x4 = s.2 6 2 by omega]) | (intro j hj; omega) | (rw [hw2, hI.2.2.2.2.2.2.1, show (x6 + 1).toNat = x6.toNat + 1 by omega]; rfl) | (intro j hj; by_cases e9 : j = x6.toNat; (focus (rw [e9, ← hI.2.2.2.2.2.2.1]; omega)); (focus (exact hI.2.2.2.2.2.2.2 j (by omega)))) | (have h9 := many_t (p := fun y => awayIs (nx (s.2 6) (s.2 7)) a1 y a2.toNat) (k := x4) (by omega) (away_y (by rw [show a2 = x6 by omega, ← hI.2.2.2.2.2.2.1]; omega) (fun m hm => hI.2.2.2.2.2.2.2 m (by omega))); omega) | (have h9 := many_f (p := fun y => awayIs (nx (s.2 6) (s.2 7)) a1 y a2.toNat) (k := x4) (by omega) (away_n1 (k := x6.toNat) (by rw [← hI.2.2.2.2.2.2.1]; omega) (by omega)); omega) | (have h9 := many_f (p := fun y => awayIs (nx (s.2 6) (s.2 7)) a1 y a2.toNat) (k := x4) (by omega) (away_n2 (by rw [show a2 = x6 by omega, ← hI.2.2.2.2.2.2.1]; omega)); omega) | grind [upI])
theorem vX3_back_22 (s : MS) (a1 : Int) (a2 : Int) (hp : tOK (s.2 6) ∧ aOK (s.2 6) (s.2 7)) (o_1 : (tOK (s.2 6))) (c_3 : ¬ (bI (0 ≤ a1 ∧ a1 < (s.2 6) 2)) = 0) (c_5 : ¬ (bI ((0 : Int) ≤ a2 ∧ a2 ≤ (200 : Int))) = 0) : (tOK (s.2 6) ∧ aOK (s.2 6) (s.2 7)) := by
  obtain ⟨ht, ha⟩ := hp
  have hN := tOK_N ht
  have hg := nx_rng (s.2 6) (s.2 7)
  (try simp only [bI_0, bI_n, Classical.not_not] at *)
  (try have hq := ‹NXO (s.2 6) (s.2 7) _›)
  (try have hq := hI.2.1)
  (try have hb := many_b (fun y => awayIs (nx (s.2 6) (s.2 7)) a1 y a2.toNat) x4.toNat)
  (try (have hw := it_b hg (x := x4) (by omega) (by omega) x6.toNat; rw [← hI.2.2.2.2.2.2.1] at hw; have hw2 := hq x5 hw.1 hw.2))
  (try unfold lex3)
  (try simp only [bI_0, bI_n, Classical.not_not] at *)
  (try simp (disch := omega) only [i32_id] at *)
  first | done | omega | ((repeat' (with_reducible apply And.intro)) <;> first | assumption | rfl | omega | (exact hI.1) | (exact hI.2.1) | (exact hq) | (unfold rBack; rw [if_neg (by omega)]) | (unfold rBack; rw [if_pos (by omega), hI.2.2.2.2, show x4 = s.2 6 2 by omega]) | (intro j hj; omega) | (rw [hw2, hI.2.2.2.2.2.2.1, show (x6 + 1).toNat = x6.toNat + 1 by omega]; rfl) | (intro j hj; by_cases e9 : j = x6.toNat; (focus (rw [e9, ← hI.2.2.2.2.2.2.1]; omega)); (focus (exact hI.2.2.2.2.2.2.2 j (by omega)))) | (have h9 := many_t (p := fun y => awayIs (nx (s.2 6) (s.2 7)) a1 y a2.toNat) (k := x4) (by omega) (away_y (by rw [show a2 = x6 by omega, ← hI.2.2.2.2.2.2.1]; omega) (fun m hm => hI.2.2.2.2.2.2.2 m (by omega))); omega) | (have h9 := many_f (p := fun y => awayIs (nx (s.2 6) (s.2 7)) a1 y a2.toNat) (k := x4) (by omega) (away_n1 (k := x6.toNat) (by rw [← hI.2.2.2.2.2.2.1]; omega) (by omega)); omega) | (have h9 := many_f (p := fun y => awayIs (nx (s.2 6) (s.2 7)) a1 y a2.toNat) (k := x4) (by omega) (away_n2 (by rw [show a2 = x6 by omega, ← hI.2.2.2.2.2.2.1]; omega)); omega) | grind [upI])
theorem vX3_back_23 (s : MS) (a1 : Int) (a2 : Int) (hp : tOK (s.2 6) ∧ aOK (s.2 6) (s.2 7)) (o_1 : (tOK (s.2 6))) (c_3 : ¬ (bI (0 ≤ a1 ∧ a1 < (s.2 6) 2)) = 0) (c_5 : ¬ (bI ((0 : Int) ≤ a2 ∧ a2 ≤ (200 : Int))) = 0) (o_6 : (tOK (s.2 6) ∧ aOK (s.2 6) (s.2 7))) (f_7 : Int → Int) (f_8 : Int → Int) (f_9 : Int → Int) (k_10 : Int) (q_11 : (NXO (s.2 6) (s.2 7) f_9)) : (0 : Int) = 0 ∧ NXO (s.2 6) (s.2 7) f_9 ∧ (a1 = a1 ∧ a2 = a2 ∧ 0 ≤ a1 ∧ a1 < s.2 6 2 ∧ 0 ≤ a2 ∧ a2 ≤ 200) ∧ (0 ≤ (0 : Int) ∧ (0 : Int) ≤ s.2 6 2) ∧ (0 : Int) = many (fun y => awayIs (nx (s.2 6) (s.2 7)) a1 y a2.toNat) (0 : Int).toNat := by
  obtain ⟨ht, ha⟩ := hp
  have hN := tOK_N ht
  have hg := nx_rng (s.2 6) (s.2 7)
  (try simp only [bI_0, bI_n, Classical.not_not] at *)
  (try have hq := ‹NXO (s.2 6) (s.2 7) _›)
  (try have hq := hI.2.1)
  (try have hb := many_b (fun y => awayIs (nx (s.2 6) (s.2 7)) a1 y a2.toNat) x4.toNat)
  (try (have hw := it_b hg (x := x4) (by omega) (by omega) x6.toNat; rw [← hI.2.2.2.2.2.2.1] at hw; have hw2 := hq x5 hw.1 hw.2))
  (try unfold lex3)
  (try simp only [bI_0, bI_n, Classical.not_not] at *)
  (try simp (disch := omega) only [i32_id] at *)
  first | done | omega | ((repeat' (with_reducible apply And.intro)) <;> first | assumption | rfl | omega | (exact hI.1) | (exact hI.2.1) | (exact hq) | (unfold rBack; rw [if_neg (by omega)]) | (unfold rBack; rw [if_pos (by omega), hI.2.2.2.2, show x4 = s.2 6 2 by omega]) | (intro j hj; omega) | (rw [hw2, hI.2.2.2.2.2.2.1, show (x6 + 1).toNat = x6.toNat + 1 by omega]; rfl) | (intro j hj; by_cases e9 : j = x6.toNat; (focus (rw [e9, ← hI.2.2.2.2.2.2.1]; omega)); (focus (exact hI.2.2.2.2.2.2.2 j (by omega)))) | (have h9 := many_t (p := fun y => awayIs (nx (s.2 6) (s.2 7)) a1 y a2.toNat) (k := x4) (by omega) (away_y (by rw [show a2 = x6 by omega, ← hI.2.2.2.2.2.2.1]; omega) (fun m hm => hI.2.2.2.2.2.2.2 m (by omega))); omega) | (have h9 := many_f (p := fun y => awayIs (nx (s.2 6) (s.2 7)) a1 y a2.toNat) (k := x4) (by omega) (away_n1 (k := x6.toNat) (by rw [← hI.2.2.2.2.2.2.1]; omega) (by omega)); omega) | (have h9 := many_f (p := fun y => awayIs (nx (s.2 6) (s.2 7)) a1 y a2.toNat) (k := x4) (by omega) (away_n2 (by rw [show a2 = x6 by omega, ← hI.2.2.2.2.2.2.1]; omega)); omega) | grind [upI])
theorem vX3_back_24 (s : MS) (a1 : Int) (a2 : Int) (hp : tOK (s.2 6) ∧ aOK (s.2 6) (s.2 7)) (o_1 : (tOK (s.2 6))) (c_3 : ¬ (bI (0 ≤ a1 ∧ a1 < (s.2 6) 2)) = 0) (c_5 : (bI ((0 : Int) ≤ a2 ∧ a2 ≤ (200 : Int))) = 0) : (-2) = (rBack (s.2 6) (s.2 7) a1 a2) := by
  obtain ⟨ht, ha⟩ := hp
  have hN := tOK_N ht
  have hg := nx_rng (s.2 6) (s.2 7)
  (try simp only [bI_0, bI_n, Classical.not_not] at *)
  (try have hq := ‹NXO (s.2 6) (s.2 7) _›)
  (try have hq := hI.2.1)
  (try have hb := many_b (fun y => awayIs (nx (s.2 6) (s.2 7)) a1 y a2.toNat) x4.toNat)
  (try (have hw := it_b hg (x := x4) (by omega) (by omega) x6.toNat; rw [← hI.2.2.2.2.2.2.1] at hw; have hw2 := hq x5 hw.1 hw.2))
  (try unfold lex3)
  (try simp only [bI_0, bI_n, Classical.not_not] at *)
  (try simp (disch := omega) only [i32_id] at *)
  first | done | omega | ((repeat' (with_reducible apply And.intro)) <;> first | assumption | rfl | omega | (exact hI.1) | (exact hI.2.1) | (exact hq) | (unfold rBack; rw [if_neg (by omega)]) | (unfold rBack; rw [if_pos (by omega), hI.2.2.2.2, show x4 = s.2 6 2 by omega]) | (intro j hj; omega) | (rw [hw2, hI.2.2.2.2.2.2.1, show (x6 + 1).toNat = x6.toNat + 1 by omega]; rfl) | (intro j hj; by_cases e9 : j = x6.toNat; (focus (rw [e9, ← hI.2.2.2.2.2.2.1]; omega)); (focus (exact hI.2.2.2.2.2.2.2 j (by omega)))) | (have h9 := many_t (p := fun y => awayIs (nx (s.2 6) (s.2 7)) a1 y a2.toNat) (k := x4) (by omega) (away_y (by rw [show a2 = x6 by omega, ← hI.2.2.2.2.2.2.1]; omega) (fun m hm => hI.2.2.2.2.2.2.2 m (by omega))); omega) | (have h9 := many_f (p := fun y => awayIs (nx (s.2 6) (s.2 7)) a1 y a2.toNat) (k := x4) (by omega) (away_n1 (k := x6.toNat) (by rw [← hI.2.2.2.2.2.2.1]; omega) (by omega)); omega) | (have h9 := many_f (p := fun y => awayIs (nx (s.2 6) (s.2 7)) a1 y a2.toNat) (k := x4) (by omega) (away_n2 (by rw [show a2 = x6 by omega, ← hI.2.2.2.2.2.2.1]; omega)); omega) | grind [upI])
theorem allX3_back (b : AH) (s : MS) (a1 : Int) (a2 : Int) (hp : tOK (s.2 6) ∧ aOK (s.2 6) (s.2 7)) : ∀ m1 m2 m3 : Nat, (∀ (x1 : Int) (x2 : Int) (x3 : Int) (x4 : Int) (f11 : Int → Int) (f12 : Int → Int) (f13 : Int → Int) (f14 : Int → Int) (f15 : Int → Int) (f16 : Int → Int) (f17 : Int → Int) (f18 : Int → Int) (f19 : Int → Int) (k0 : Int) (k25 : Int) (k33 : Int) (k34 : Int), m1 = 0 → m2 = ((s.2 6 2 - x4).toNat) → m3 = 0 → (k0 = 0 ∧ NXO (s.2 6) (s.2 7) f13 ∧ (x1 = a1 ∧ x2 = a2 ∧ 0 ≤ a1 ∧ a1 < s.2 6 2 ∧ 0 ≤ a2 ∧ a2 ≤ 200) ∧ (0 ≤ x4 ∧ x4 ≤ s.2 6 2) ∧ x3 = many (fun y => awayIs (nx (s.2 6) (s.2 7)) a1 y a2.toNat) x4.toNat) → HX3_back_38 (QX3_back s a1 a2) b s x1 x2 x3 x4 f11 f12 f13 f14 f15 f16 f17 f18 f19 k0 k25 k33 k34) ∧ (∀ (x1 : Int) (x2 : Int) (x3 : Int) (x4 : Int) (x5 : Int) (x6 : Int) (f11 : Int → Int) (f12 : Int → Int) (f13 : Int → Int) (f14 : Int → Int) (f15 : Int → Int) (f16 : Int → Int) (f17 : Int → Int) (f18 : Int → Int) (f19 : Int → Int) (k0 : Int) (k25 : Int) (k33 : Int) (k34 : Int), m1 = 0 → m2 = ((s.2 6 2 - x4).toNat - 1) → m3 = ((a2 - x6).toNat + 1) → (k0 = 0 ∧ NXO (s.2 6) (s.2 7) f13 ∧ (x1 = a1 ∧ x2 = a2 ∧ 0 ≤ a1 ∧ a1 < s.2 6 2 ∧ 0 ≤ a2 ∧ a2 ≤ 200) ∧ (0 ≤ x4 ∧ x4 < s.2 6 2) ∧ x3 = many (fun y => awayIs (nx (s.2 6) (s.2 7)) a1 y a2.toNat) x4.toNat ∧ (0 ≤ x6 ∧ x6 ≤ a2) ∧ x5 = it (nx (s.2 6) (s.2 7)) x4 x6.toNat ∧ ∀ j : Nat, j < x6 → it (nx (s.2 6) (s.2 7)) x4 j ≠ a1) → HX3_back_56 (QX3_back s a1 a2) b s x1 x2 x3 x4 x5 x6 f11 f12 f13 f14 f15 f16 f17 f18 f19 k0 k25 k33 k34) := by
  refine lex3_ind ?_
  intro m1 m2 m3 ih
  refine ⟨?_, ?_⟩
  · rintro x1 x2 x3 x4 f11 f12 f13 f14 f15 f16 f17 f18 f19 k0 k25 k33 k34 rfl rfl rfl hI
    refine bX3_back_38 b s x1 x2 x3 x4 f11 f12 f13 f14 f15 f16 f17 f18 f19 k0 k25 k33 k34 ?_
    refine ⟨fun c_1 => ?_, fun c_1 => ?_⟩
    · exact ⟨f11, f12, f13, f14, f15, f16, f17, f18, f19, k25, k33, k34, (rI_c (vX3_back_2 s a1 a2 hp x1 x2 x3 x4 f11 f12 f13 f14 f15 f16 f17 f18 f19 k0 k25 k33 k34 hI c_1)), (sS_c (sS_c (sS_c (sS_c (sA_c (sA_c (sA_c (sA_c (sA_c (sA_c (sA_c (sA_c (sA_c rfl rfl) rfl) rfl) rfl) rfl) rfl) rfl) rfl) rfl) (vX3_back_1 s a1 a2 hp x1 x2 x3 x4 f11 f12 f13 f14 f15 f16 f17 f18 f19 k0 k25 k33 k34 hI c_1)) rfl) rfl) rfl)⟩
    · exact (ih _ _ _ (vX3_back_4 s a1 a2 hp x1 x2 x3 x4 f11 f12 f13 f14 f15 f16 f17 f18 f19 k0 k25 k33 k34 hI c_1)).2 x1 x2 x3 x4 x4 0 f11 f12 f13 f14 f15 f16 f17 f18 f19 k0 k25 k33 k34 rfl rfl rfl (vX3_back_3 s a1 a2 hp x1 x2 x3 x4 f11 f12 f13 f14 f15 f16 f17 f18 f19 k0 k25 k33 k34 hI c_1)
  · rintro x1 x2 x3 x4 x5 x6 f11 f12 f13 f14 f15 f16 f17 f18 f19 k0 k25 k33 k34 rfl rfl rfl hI
    refine bX3_back_56 b s x1 x2 x3 x4 x5 x6 f11 f12 f13 f14 f15 f16 f17 f18 f19 k0 k25 k33 k34 ?_
    refine ⟨fun c_1 => ?_, fun c_1 => ?_⟩
    · refine ⟨fun c_2 => ?_, fun c_2 => ?_⟩
      · exact (ih _ _ _ (vX3_back_6 s a1 a2 hp x1 x2 x3 x4 x5 x6 f11 f12 f13 f14 f15 f16 f17 f18 f19 k0 k25 k33 k34 hI c_1 c_2)).1 x1 x2 (i32 (x3 + 0)) (i32 (x4 + 1)) f11 f12 f13 f14 f15 f16 f17 f18 f19 k0 k25 k33 k34 rfl rfl rfl (vX3_back_5 s a1 a2 hp x1 x2 x3 x4 x5 x6 f11 f12 f13 f14 f15 f16 f17 f18 f19 k0 k25 k33 k34 hI c_1 c_2)
      · refine ⟨fun c_3 => ?_, fun c_3 => ?_⟩
        · exact (ih _ _ _ (vX3_back_8 s a1 a2 hp x1 x2 x3 x4 x5 x6 f11 f12 f13 f14 f15 f16 f17 f18 f19 k0 k25 k33 k34 hI c_1 c_2 c_3)).1 x1 x2 (i32 (x3 + 0)) (i32 (x4 + 1)) f11 f12 f13 f14 f15 f16 f17 f18 f19 k0 k25 k33 k34 rfl rfl rfl (vX3_back_7 s a1 a2 hp x1 x2 x3 x4 x5 x6 f11 f12 f13 f14 f15 f16 f17 f18 f19 k0 k25 k33 k34 hI c_1 c_2 c_3)
        · exact (ih _ _ _ (vX3_back_10 s a1 a2 hp x1 x2 x3 x4 x5 x6 f11 f12 f13 f14 f15 f16 f17 f18 f19 k0 k25 k33 k34 hI c_1 c_2 c_3)).1 x1 x2 (i32 (x3 + 1)) (i32 (x4 + 1)) f11 f12 f13 f14 f15 f16 f17 f18 f19 k0 k25 k33 k34 rfl rfl rfl (vX3_back_9 s a1 a2 hp x1 x2 x3 x4 x5 x6 f11 f12 f13 f14 f15 f16 f17 f18 f19 k0 k25 k33 k34 hI c_1 c_2 c_3)
    · refine ⟨fun c_4 => ?_, fun c_4 => ?_⟩
      · refine ⟨fun c_5 => ?_, fun c_5 => ?_⟩
        · exact (ih _ _ _ (vX3_back_12 s a1 a2 hp x1 x2 x3 x4 x5 x6 f11 f12 f13 f14 f15 f16 f17 f18 f19 k0 k25 k33 k34 hI c_1 c_4 c_5)).1 x1 x2 (i32 (x3 + 0)) (i32 (x4 + 1)) f11 f12 f13 f14 f15 f16 f17 f18 f19 k0 k25 k33 k34 rfl rfl rfl (vX3_back_11 s a1 a2 hp x1 x2 x3 x4 x5 x6 f11 f12 f13 f14 f15 f16 f17 f18 f19 k0 k25 k33 k34 hI c_1 c_4 c_5)
        · refine ⟨fun c_6 => ?_, fun c_6 => ?_⟩
          · exact (ih _ _ _ (vX3_back_14 s a1 a2 hp x1 x2 x3 x4 x5 x6 f11 f12 f13 f14 f15 f16 f17 f18 f19 k0 k25 k33 k34 hI c_1 c_4 c_5 c_6)).1 x1 x2 (i32 (x3 + 0)) (i32 (x4 + 1)) f11 f12 f13 f14 f15 f16 f17 f18 f19 k0 k25 k33 k34 rfl rfl rfl (vX3_back_13 s a1 a2 hp x1 x2 x3 x4 x5 x6 f11 f12 f13 f14 f15 f16 f17 f18 f19 k0 k25 k33 k34 hI c_1 c_4 c_5 c_6)
          · exact (ih _ _ _ (vX3_back_16 s a1 a2 hp x1 x2 x3 x4 x5 x6 f11 f12 f13 f14 f15 f16 f17 f18 f19 k0 k25 k33 k34 hI c_1 c_4 c_5 c_6)).1 x1 x2 (i32 (x3 + 1)) (i32 (x4 + 1)) f11 f12 f13 f14 f15 f16 f17 f18 f19 k0 k25 k33 k34 rfl rfl rfl (vX3_back_15 s a1 a2 hp x1 x2 x3 x4 x5 x6 f11 f12 f13 f14 f15 f16 f17 f18 f19 k0 k25 k33 k34 hI c_1 c_4 c_5 c_6)
      · have o_7 : (0 ≤ x5 ∧ x5 < 10000) := (vX3_back_17 s a1 a2 hp x1 x2 x3 x4 x5 x6 f11 f12 f13 f14 f15 f16 f17 f18 f19 k0 k25 k33 k34 hI c_1 c_4)
        refine ⟨o_7, ?_⟩
        exact (ih _ _ _ (vX3_back_19 s a1 a2 hp x1 x2 x3 x4 x5 x6 f11 f12 f13 f14 f15 f16 f17 f18 f19 k0 k25 k33 k34 hI c_1 c_4 o_7)).2 x1 x2 x3 x4 (f13 x5) (i32 (x6 + 1)) f11 f12 f13 f14 f15 f16 f17 f18 f19 k0 k25 k33 k34 rfl rfl rfl (vX3_back_18 s a1 a2 hp x1 x2 x3 x4 x5 x6 f11 f12 f13 f14 f15 f16 f17 f18 f19 k0 k25 k33 k34 hI c_1 c_4 o_7)
theorem ctX3_back (b : AH) (s : MS) (a1 : Int) (a2 : Int) (hp : tOK (s.2 6) ∧ aOK (s.2 6) (s.2 7)) : MC mX3_back 8 b s [vI a1, vI a2] (QX3_back s a1 a2) := by
  refine MC.of (by decide) rfl (Nat.le_of_ble_eq_true rfl) (JW.steq (s2 := sS (sS (sS (sS (sA (sA (sA (sA (sA (sA (sA (sA (sA s 11 (s.2 11)) 12 (s.2 12)) 13 (s.2 13)) 14 (s.2 14)) 15 (s.2 15)) 16 (s.2 16)) 17 (s.2 17)) 18 (s.2 18)) 19 (s.2 19)) 0 (s.1 0)) 25 (s.1 25)) 33 (s.1 33)) 34 (s.1 34)) (by simp only [sA_id, sS_id]) ?_)
  refine bX3_back_0 b s a1 a2 (s.2 11) (s.2 12) (s.2 13) (s.2 14) (s.2 15) (s.2 16) (s.2 17) (s.2 18) (s.2 19) (s.1 0) (s.1 25) (s.1 33) (s.1 34) ?_
  have o_1 : (tOK (s.2 6)) := (vX3_back_20 s a1 a2 hp)
  refine ⟨o_1, ?_⟩
  refine ⟨fun c_3 => ?_, fun c_3 => ?_⟩
  · exact ⟨(s.2 11), (s.2 12), (s.2 13), (s.2 14), (s.2 15), (s.2 16), (s.2 17), (s.2 18), (s.2 19), (s.1 25), (s.1 33), (s.1 34), (rI_c (vX3_back_21 s a1 a2 hp o_1 c_3)), rfl⟩
  · refine ⟨fun c_5 => ?_, fun c_5 => ?_⟩
    · have o_6 : (tOK (s.2 6) ∧ aOK (s.2 6) (s.2 7)) := (vX3_back_22 s a1 a2 hp o_1 c_3 c_5)
      refine ⟨o_6, ?_⟩
      intro f_7 f_8 f_9 k_10 q_11
      exact (allX3_back b s a1 a2 hp _ _ _).1 a1 a2 0 0 f_7 f_8 f_9 (s.2 14) (s.2 15) (s.2 16) (s.2 17) (s.2 18) (s.2 19) 0 k_10 (s.1 33) (s.1 34) rfl rfl rfl (vX3_back_23 s a1 a2 hp o_1 c_3 c_5 o_6 f_7 f_8 f_9 k_10 q_11)
    · exact ⟨(s.2 11), (s.2 12), (s.2 13), (s.2 14), (s.2 15), (s.2 16), (s.2 17), (s.2 18), (s.2 19), (s.1 25), (s.1 33), (s.1 34), (rI_c (vX3_back_24 s a1 a2 hp o_1 c_3 c_5)), rfl⟩
def HX3_meet_0 (Q : Option AV → MS → Prop) (b : AH) (s : MS) (x1 : Int) (x2 : Int) (f11 : Int → Int) (f12 : Int → Int) (f13 : Int → Int) (f14 : Int → Int) (f15 : Int → Int) (f16 : Int → Int) (f17 : Int → Int) (f18 : Int → Int) (f19 : Int → Int) (k0 : Int) (k25 : Int) (k33 : Int) (k34 : Int) : Prop := MW mX3_meet 8 Q b 0 [(0, vR 351), (1, vI x1), (2, vI x2)] [] (sS (sS (sS (sS (sA (sA (sA (sA (sA (sA (sA (sA (sA s 11 f11) 12 f12) 13 f13) 14 f14) 15 f15) 16 f16) 17 f17) 18 f18) 19 f19) 0 k0) 25 k25) 33 k33) 34 k34)
def HX3_meet_38 (Q : Option AV → MS → Prop) (b : AH) (s : MS) (x3 : Int) (x4 : Int) (x5 : Int) (f11 : Int → Int) (f12 : Int → Int) (f13 : Int → Int) (f14 : Int → Int) (f15 : Int → Int) (f16 : Int → Int) (f17 : Int → Int) (f18 : Int → Int) (f19 : Int → Int) (k0 : Int) (k25 : Int) (k33 : Int) (k34 : Int) : Prop := MW mX3_meet 8 Q b 38 [(0, vR 351), (3, vI x3), (4, vI x4), (5, vI x5)] [] (sS (sS (sS (sS (sA (sA (sA (sA (sA (sA (sA (sA (sA s 11 f11) 12 f12) 13 f13) 14 f14) 15 f15) 16 f16) 17 f17) 18 f18) 19 f19) 0 k0) 25 k25) 33 k33) 34 k34)
theorem bX3_meet_0 {Q : Option AV → MS → Prop} (b : AH) (s : MS) (x1 : Int) (x2 : Int) (f11 : Int → Int) (f12 : Int → Int) (f13 : Int → Int) (f14 : Int → Int) (f15 : Int → Int) (f16 : Int → Int) (f17 : Int → Int) (f18 : Int → Int) (f19 : Int → Int) (k0 : Int) (k25 : Int) (k33 : Int) (k34 : Int) (K : (tOK (s.2 6)) ∧ (((bI (0 ≤ x1 ∧ x1 < (s.2 6) 2)) = 0 → Q (some (vI (-2))) (sS (sS (sS (sS (sA (sA (sA (sA (sA (sA (sA (sA (sA s 11 f11) 12 f12) 13 f13) 14 f14) 15 f15) 16 f16) 17 f17) 18 f18) 19 f19) 0 0) 25 k25) 33 k33) 34 k34)) ∧ (¬ (bI (0 ≤ x1 ∧ x1 < (s.2 6) 2)) = 0 → (¬ (bI (0 ≤ x2 ∧ x2 < (s.2 6) 2)) = 0 → (tOK (s.2 6) ∧ aOK (s.2 6) (s.2 7)) ∧ ((∀ (f_7 : Int → Int) (f_8 : Int → Int) (f_9 : Int → Int) (k_10 : Int), (NXO (s.2 6) (s.2 7) f_9) → HX3_meet_38 Q b s x1 x2 0 f_7 f_8 f_9 f14 f15 f16 f17 f18 f19 0 k_10 k33 k34))) ∧ ((bI (0 ≤ x2 ∧ x2 < (s.2 6) 2)) = 0 → Q (some (vI (-2))) (sS (sS (sS (sS (sA (sA (sA (sA (sA (sA (sA (sA (sA s 11 f11) 12 f12) 13 f13) 14 f14) 15 f15) 16 f16) 17 f17) 18 f18) 19 f19) 0 0) 25 k25) 33 k33) 34 k34))))) : HX3_meet_0 Q b s x1 x2 f11 f12 f13 f14 f15 f16 f17 f18 f19 k0 k25 k33 k34 := by
  refine JW.aload_n dX3_meet_0 rfl ?_
  refine JW.iconst dX3_meet_1 rfl ?_
  refine JW.mputI dX3_meet_2 (pX3_77 _) rfl ?_
  refine JW.steq (s2 := sS (sS (sS (sS (sA (sA (sA (sA (sA (sA (sA (sA (sA s 11 f11) 12 f12) 13 f13) 14 f14) 15 f15) 16 f16) 17 f17) 18 f18) 19 f19) 0 0) 25 k25) 33 k33) 34 k34) (by simp only [sA_A, sS_S, sA_S, sA_lt, sS_lt, Nat.reduceLT, id_eq] <;> rfl) ?_
  refine JW.aload_n dX3_meet_5 rfl ?_
  refine JW.iload_n dX3_meet_6 rfl ?_
  refine JW.i2l dX3_meet_7 ?_
  obtain ⟨o_1, K⟩ := K
  refine JW.mcall (As := [vL x1]) dX3_meet_8 vX3_isNumber rfl q1806 (ctX3_isNumber b (sS (sS (sS (sS (sA (sA (sA (sA (sA (sA (sA (sA (sA s 11 f11) 12 f12) 13 f13) 14 f14) 15 f15) 16 f16) 17 f17) 18 f18) 19 f19) 0 0) 25 k25) 33 k33) 34 k34) x1 o_1) (Nat.le_of_ble_eq_true rfl) rfl (Nat.le_of_ble_eq_true rfl) ?_
  rintro _ _ ⟨rfl, eq_2⟩
  refine JW.steq (s2 := sS (sS (sS (sS (sA (sA (sA (sA (sA (sA (sA (sA (sA s 11 f11) 12 f12) 13 f13) 14 f14) 15 f15) 16 f16) 17 f17) 18 f18) 19 f19) 0 0) 25 k25) 33 k33) 34 k34) eq_2 ?_
  refine JW.if_eq (tgt := 23) dX3_meet_11 rfl (fun c_3 => ?_) (fun c_3 => ?_)
  · have K := K.1 c_3
    refine JW.bipush dX3_meet_23 rfl ?_
    exact JW.ireturn dX3_meet_25 rfl rfl ⟨_, rfl, K⟩
  · have K := K.2 c_3
    refine JW.aload_n dX3_meet_14 rfl ?_
    refine JW.iload_n dX3_meet_15 rfl ?_
    refine JW.i2l dX3_meet_16 ?_
    refine JW.mcall (As := [vL x2]) dX3_meet_17 vX3_isNumber rfl q1806 (ctX3_isNumber b (sS (sS (sS (sS (sA (sA (sA (sA (sA (sA (sA (sA (sA s 11 f11) 12 f12) 13 f13) 14 f14) 15 f15) 16 f16) 17 f17) 18 f18) 19 f19) 0 0) 25 k25) 33 k33) 34 k34) x2 o_1) (Nat.le_of_ble_eq_true rfl) rfl (Nat.le_of_ble_eq_true rfl) ?_
    rintro _ _ ⟨rfl, eq_4⟩
    refine JW.steq (s2 := sS (sS (sS (sS (sA (sA (sA (sA (sA (sA (sA (sA (sA s 11 f11) 12 f12) 13 f13) 14 f14) 15 f15) 16 f16) 17 f17) 18 f18) 19 f19) 0 0) 25 k25) 33 k33) 34 k34) eq_4 ?_
    refine JW.if_ne (tgt := 26) dX3_meet_20 rfl (fun c_5 => ?_) (fun c_5 => ?_)
    · have K := K.1 c_5
      refine JW.aload_n dX3_meet_26 rfl ?_
      obtain ⟨o_6, K⟩ := K
      refine JW.mcall (As := []) dX3_meet_27 vX3_lays rfl q1867 (ctX3_lays b (sS (sS (sS (sS (sA (sA (sA (sA (sA (sA (sA (sA (sA s 11 f11) 12 f12) 13 f13) 14 f14) 15 f15) 16 f16) 17 f17) 18 f18) 19 f19) 0 0) 25 k25) 33 k33) 34 k34) o_6) (Nat.le_of_ble_eq_true rfl) rfl (Nat.le_of_ble_eq_true rfl) ?_
      rintro _ _ ⟨f_7, f_8, f_9, k_10, rfl, rfl, q_11⟩
      refine JW.steq (s2 := sS (sS (sS (sS (sA (sA (sA (sA (sA (sA (sA (sA (sA s 11 f_7) 12 f_8) 13 f_9) 14 f14) 15 f15) 16 f16) 17 f17) 18 f18) 19 f19) 0 0) 25 k_10) 33 k33) 34 k34) (by simp only [sA_A, sS_S, sA_S, sA_lt, sS_lt, Nat.reduceLT, id_eq] <;> rfl) ?_
      replace K := K f_7 f_8 f_9 k_10 q_11
      refine JW.iload_n dX3_meet_30 rfl ?_
      refine JW.istore_n (ls' := [(0, vR 351), (1, vI x1), (2, vI x2), (3, vI x1)]) dX3_meet_31 (Nat.le_of_ble_eq_true rfl) rfl ?_
      refine JW.iload_n dX3_meet_32 rfl ?_
      refine JW.istore (ls' := [(0, vR 351), (1, vI x1), (2, vI x2), (3, vI x1), (4, vI x2)]) dX3_meet_33 (Nat.le_of_ble_eq_true rfl) rfl ?_
      refine JW.iconst dX3_meet_35 rfl ?_
      refine JW.istore (ls' := [(0, vR 351), (1, vI x1), (2, vI x2), (3, vI x1), (4, vI x2), (5, vI 0)]) dX3_meet_36 (Nat.le_of_ble_eq_true rfl) rfl ?_
      exact JW.pick [0, 3, 4, 5] rfl K
    · have K := K.2 c_5
      refine JW.bipush dX3_meet_23 rfl ?_
      exact JW.ireturn dX3_meet_25 rfl rfl ⟨_, rfl, K⟩
theorem bX3_meet_38 {Q : Option AV → MS → Prop} (b : AH) (s : MS) (x3 : Int) (x4 : Int) (x5 : Int) (f11 : Int → Int) (f12 : Int → Int) (f13 : Int → Int) (f14 : Int → Int) (f15 : Int → Int) (f16 : Int → Int) (f17 : Int → Int) (f18 : Int → Int) (f19 : Int → Int) (k0 : Int) (k25 : Int) (k33 : Int) (k34 : Int) (K : ((s.2 6 2) < x5 → Q (some (vI (-1))) (sS (sS (sS (sS (sA (sA (sA (sA (sA (sA (sA (sA (sA s 11 f11) 12 f12) 13 f13) 14 f14) 15 f15) 16 f16) 17 f17) 18 f18) 19 f19) 0 k0) 25 k25) 33 k33) 34 k34)) ∧ (¬ (s.2 6 2) < x5 → (¬ x3 = x4 → (0 ≤ x3 ∧ x3 < 10000) ∧ ((0 ≤ x4 ∧ x4 < 10000) ∧ (HX3_meet_38 Q b s (f13 x3) (f13 x4) (i32 (x5 + 1)) f11 f12 f13 f14 f15 f16 f17 f18 f19 k0 k25 k33 k34))) ∧ (x3 = x4 → Q (some (vI x5)) (sS (sS (sS (sS (sA (sA (sA (sA (sA (sA (sA (sA (sA s 11 f11) 12 f12) 13 f13) 14 f14) 15 f15) 16 f16) 17 f17) 18 f18) 19 f19) 0 k0) 25 k25) 33 k33) 34 k34)))) : HX3_meet_38 Q b s x3 x4 x5 f11 f12 f13 f14 f15 f16 f17 f18 f19 k0 k25 k33 k34 := by
  refine JW.iload dX3_meet_38 rfl ?_
  refine JW.aload_n dX3_meet_40 rfl ?_
  refine JW.mget (v := vR 358) dX3_meet_41 fX3_34 rfl ?_
  refine JW.iconst dX3_meet_44 rfl ?_
  refine JW.mald 6 (x := (s.2 6 2)) dX3_meet_45 (Nat.le_of_ble_eq_true rfl) rfl (by decide) (by decide) rfl ?_
  refine JW.icmp_gt (tgt := 80) dX3_meet_46 rfl (fun c_1 => ?_) (fun c_1 => ?_)
  · have K := K.1 c_1
    refine JW.iconst dX3_meet_80 rfl ?_
    exact JW.ireturn dX3_meet_81 rfl rfl ⟨_, rfl, K⟩
  · have K := K.2 c_1
    refine JW.iload_n dX3_meet_49 rfl ?_
    refine JW.iload dX3_meet_50 rfl ?_
    refine JW.icmp_ne (tgt := 58) dX3_meet_52 rfl (fun c_2 => ?_) (fun c_2 => ?_)
    · have K := K.1 c_2
      refine JW.aload_n dX3_meet_58 rfl ?_
      refine JW.mget (v := vR 365) dX3_meet_59 fX3_56 rfl ?_
      refine JW.iload_n dX3_meet_62 rfl ?_
      obtain ⟨o_3, K⟩ := K
      refine JW.mald 13 (x := (f13 x3)) dX3_meet_63 (Nat.le_of_ble_eq_true rfl) rfl o_3.1 o_3.2 rfl ?_
      refine JW.istore_n (ls' := [(0, vR 351), (3, vI (f13 x3)), (4, vI x4), (5, vI x5)]) dX3_meet_64 (Nat.le_of_ble_eq_true rfl) rfl ?_
      refine JW.aload_n dX3_meet_65 rfl ?_
      refine JW.mget (v := vR 365) dX3_meet_66 fX3_56 rfl ?_
      refine JW.iload dX3_meet_69 rfl ?_
      obtain ⟨o_4, K⟩ := K
      refine JW.mald 13 (x := (f13 x4)) dX3_meet_71 (Nat.le_of_ble_eq_true rfl) rfl o_4.1 o_4.2 rfl ?_
      refine JW.istore (ls' := [(0, vR 351), (3, vI (f13 x3)), (4, vI (f13 x4)), (5, vI x5)]) dX3_meet_72 (Nat.le_of_ble_eq_true rfl) rfl ?_
      refine JW.iinc (ls' := [(0, vR 351), (3, vI (f13 x3)), (4, vI (f13 x4)), (5, vI (i32 (x5 + 1)))]) dX3_meet_74 (Nat.le_of_ble_eq_true rfl) rfl rfl ?_
      refine JW.goto (tgt := 38) dX3_meet_77 rfl ?_
      exact JW.pick [0, 3, 4, 5] rfl K
    · have K := K.2 c_2
      refine JW.iload dX3_meet_55 rfl ?_
      exact JW.ireturn dX3_meet_57 rfl rfl ⟨_, rfl, K⟩
def QX3_meet (s : MS) (a1 : Int) (a2 : Int) : Option AV → MS → Prop := fun v s' => ∃ (f11 : Int → Int) (f12 : Int → Int) (f13 : Int → Int) (f14 : Int → Int) (f15 : Int → Int) (f16 : Int → Int) (f17 : Int → Int) (f18 : Int → Int) (f19 : Int → Int) (k25 : Int) (k33 : Int) (k34 : Int), v = some (vI (rMeet (s.2 6) (s.2 7) a1 a2)) ∧ s' = sS (sS (sS (sS (sA (sA (sA (sA (sA (sA (sA (sA (sA s 11 f11) 12 f12) 13 f13) 14 f14) 15 f15) 16 f16) 17 f17) 18 f18) 19 f19) 0 (0)) 25 k25) 33 k33) 34 k34
theorem vX3_meet_1 (s : MS) (a1 : Int) (a2 : Int) (hp : tOK (s.2 6) ∧ aOK (s.2 6) (s.2 7)) (x3 : Int) (x4 : Int) (x5 : Int) (f11 : Int → Int) (f12 : Int → Int) (f13 : Int → Int) (f14 : Int → Int) (f15 : Int → Int) (f16 : Int → Int) (f17 : Int → Int) (f18 : Int → Int) (f19 : Int → Int) (k0 : Int) (k25 : Int) (k33 : Int) (k34 : Int) (hI : k0 = 0 ∧ NXO (s.2 6) (s.2 7) f13 ∧ (0 ≤ a1 ∧ a1 < s.2 6 2 ∧ 0 ≤ a2 ∧ a2 < s.2 6 2) ∧ (0 ≤ x5 ∧ x5 ≤ s.2 6 2 + 1) ∧ x3 = it (nx (s.2 6) (s.2 7)) a1 x5.toNat ∧ x4 = it (nx (s.2 6) (s.2 7)) a2 x5.toNat ∧ ∀ j : Int, 0 ≤ j → j < x5 → it (nx (s.2 6) (s.2 7)) a1 j.toNat ≠ it (nx (s.2 6) (s.2 7)) a2 j.toNat) (c_1 : (s.2 6 2) < x5) : k0 = (0) := by
  obtain ⟨ht, ha⟩ := hp
  have hN := tOK_N ht
  have hg := nx_rng (s.2 6) (s.2 7)
  (try simp only [bI_0, bI_n, Classical.not_not] at *)
  (try have hq := ‹NXO (s.2 6) (s.2 7) _›)
  (try have hq := hI.2.1)
  (try (have h3 := it_b hg (x := a1) (by omega) (by omega) x5.toNat; rw [← hI.2.2.2.2.1] at h3; have h4 := it_b hg (x := a2) (by omega) (by omega) x5.toNat; rw [← hI.2.2.2.2.2.1] at h4; have h5 := hq x3 h3.1 h3.2; have h6 := hq x4 h4.1 h4.2))
  (try unfold lex3)
  (try simp only [bI_0, bI_n, Classical.not_not] at *)
  (try simp (disch := omega) only [i32_id] at *)
  first | done | omega | ((repeat' (with_reducible apply And.intro)) <;> first | assumption | rfl | omega | (exact hI.1) | (exact hI.2.1) | (exact hq) | (unfold rMeet; rw [if_neg (by omega)]) | (intro j h0 h1; omega) | (rw [h5, hI.2.2.2.2.1, show (x5 + 1).toNat = x5.toNat + 1 by omega]; rfl) | (rw [h6, hI.2.2.2.2.2.1, show (x5 + 1).toNat = x5.toNat + 1 by omega]; rfl) | (intro j h0 h1; by_cases e9 : j = x5; (focus (rw [e9, ← hI.2.2.2.2.1, ← hI.2.2.2.2.2.1]; assumption)); (focus (exact hI.2.2.2.2.2.2 j h0 (by omega)))) | (unfold rMeet; rw [if_pos (by omega)]; exact nth_eq (isNth_first (p := fun n => it (nx (s.2 6) (s.2 7)) a1 n.toNat = it (nx (s.2 6) (s.2 7)) a2 n.toNat) (by omega) (by omega) (by show it _ _ _ = it _ _ _; rw [← hI.2.2.2.2.1, ← hI.2.2.2.2.2.1]; assumption) hI.2.2.2.2.2.2)) | (unfold rMeet; rw [if_pos (by omega)]; exact nth_eq (isNth_nofirst (p := fun n => it (nx (s.2 6) (s.2 7)) a1 n.toNat = it (nx (s.2 6) (s.2 7)) a2 n.toNat) (fun z h0 h1 => hI.2.2.2.2.2.2 z h0 (by omega)))) | grind [upI])
theorem vX3_meet_2 (s : MS) (a1 : Int) (a2 : Int) (hp : tOK (s.2 6) ∧ aOK (s.2 6) (s.2 7)) (x3 : Int) (x4 : Int) (x5 : Int) (f11 : Int → Int) (f12 : Int → Int) (f13 : Int → Int) (f14 : Int → Int) (f15 : Int → Int) (f16 : Int → Int) (f17 : Int → Int) (f18 : Int → Int) (f19 : Int → Int) (k0 : Int) (k25 : Int) (k33 : Int) (k34 : Int) (hI : k0 = 0 ∧ NXO (s.2 6) (s.2 7) f13 ∧ (0 ≤ a1 ∧ a1 < s.2 6 2 ∧ 0 ≤ a2 ∧ a2 < s.2 6 2) ∧ (0 ≤ x5 ∧ x5 ≤ s.2 6 2 + 1) ∧ x3 = it (nx (s.2 6) (s.2 7)) a1 x5.toNat ∧ x4 = it (nx (s.2 6) (s.2 7)) a2 x5.toNat ∧ ∀ j : Int, 0 ≤ j → j < x5 → it (nx (s.2 6) (s.2 7)) a1 j.toNat ≠ it (nx (s.2 6) (s.2 7)) a2 j.toNat) (c_1 : (s.2 6 2) < x5) : (-1) = (rMeet (s.2 6) (s.2 7) a1 a2) := by
  obtain ⟨ht, ha⟩ := hp
  have hN := tOK_N ht
  have hg := nx_rng (s.2 6) (s.2 7)
  (try simp only [bI_0, bI_n, Classical.not_not] at *)
  (try have hq := ‹NXO (s.2 6) (s.2 7) _›)
  (try have hq := hI.2.1)
  (try (have h3 := it_b hg (x := a1) (by omega) (by omega) x5.toNat; rw [← hI.2.2.2.2.1] at h3; have h4 := it_b hg (x := a2) (by omega) (by omega) x5.toNat; rw [← hI.2.2.2.2.2.1] at h4; have h5 := hq x3 h3.1 h3.2; have h6 := hq x4 h4.1 h4.2))
  (try unfold lex3)
  (try simp only [bI_0, bI_n, Classical.not_not] at *)
  (try simp (disch := omega) only [i32_id] at *)
  first | done | omega | ((repeat' (with_reducible apply And.intro)) <;> first | assumption | rfl | omega | (exact hI.1) | (exact hI.2.1) | (exact hq) | (unfold rMeet; rw [if_neg (by omega)]) | (intro j h0 h1; omega) | (rw [h5, hI.2.2.2.2.1, show (x5 + 1).toNat = x5.toNat + 1 by omega]; rfl) | (rw [h6, hI.2.2.2.2.2.1, show (x5 + 1).toNat = x5.toNat + 1 by omega]; rfl) | (intro j h0 h1; by_cases e9 : j = x5; (focus (rw [e9, ← hI.2.2.2.2.1, ← hI.2.2.2.2.2.1]; assumption)); (focus (exact hI.2.2.2.2.2.2 j h0 (by omega)))) | (unfold rMeet; rw [if_pos (by omega)]; exact nth_eq (isNth_first (p := fun n => it (nx (s.2 6) (s.2 7)) a1 n.toNat = it (nx (s.2 6) (s.2 7)) a2 n.toNat) (by omega) (by omega) (by show it _ _ _ = it _ _ _; rw [← hI.2.2.2.2.1, ← hI.2.2.2.2.2.1]; assumption) hI.2.2.2.2.2.2)) | (unfold rMeet; rw [if_pos (by omega)]; exact nth_eq (isNth_nofirst (p := fun n => it (nx (s.2 6) (s.2 7)) a1 n.toNat = it (nx (s.2 6) (s.2 7)) a2 n.toNat) (fun z h0 h1 => hI.2.2.2.2.2.2 z h0 (by omega)))) | grind [upI])
theorem vX3_meet_3 (s : MS) (a1 : Int) (a2 : Int) (hp : tOK (s.2 6) ∧ aOK (s.2 6) (s.2 7)) (x3 : Int) (x4 : Int) (x5 : Int) (f11 : Int → Int) (f12 : Int → Int) (f13 : Int → Int) (f14 : Int → Int) (f15 : Int → Int) (f16 : Int → Int) (f17 : Int → Int) (f18 : Int → Int) (f19 : Int → Int) (k0 : Int) (k25 : Int) (k33 : Int) (k34 : Int) (hI : k0 = 0 ∧ NXO (s.2 6) (s.2 7) f13 ∧ (0 ≤ a1 ∧ a1 < s.2 6 2 ∧ 0 ≤ a2 ∧ a2 < s.2 6 2) ∧ (0 ≤ x5 ∧ x5 ≤ s.2 6 2 + 1) ∧ x3 = it (nx (s.2 6) (s.2 7)) a1 x5.toNat ∧ x4 = it (nx (s.2 6) (s.2 7)) a2 x5.toNat ∧ ∀ j : Int, 0 ≤ j → j < x5 → it (nx (s.2 6) (s.2 7)) a1 j.toNat ≠ it (nx (s.2 6) (s.2 7)) a2 j.toNat) (c_1 : ¬ (s.2 6 2) < x5) (c_2 : ¬ x3 = x4) : (0 ≤ x3 ∧ x3 < 10000) := by
  obtain ⟨ht, ha⟩ := hp
  have hN := tOK_N ht
  have hg := nx_rng (s.2 6) (s.2 7)
  (try simp only [bI_0, bI_n, Classical.not_not] at *)
  (try have hq := ‹NXO (s.2 6) (s.2 7) _›)
  (try have hq := hI.2.1)
  (try (have h3 := it_b hg (x := a1) (by omega) (by omega) x5.toNat; rw [← hI.2.2.2.2.1] at h3; have h4 := it_b hg (x := a2) (by omega) (by omega) x5.toNat; rw [← hI.2.2.2.2.2.1] at h4; have h5 := hq x3 h3.1 h3.2; have h6 := hq x4 h4.1 h4.2))
  (try unfold lex3)
  (try simp only [bI_0, bI_n, Classical.not_not] at *)
  (try simp (disch := omega) only [i32_id] at *)
  first | done | omega | ((repeat' (with_reducible apply And.intro)) <;> first | assumption | rfl | omega | (exact hI.1) | (exact hI.2.1) | (exact hq) | (unfold rMeet; rw [if_neg (by omega)]) | (intro j h0 h1; omega) | (rw [h5, hI.2.2.2.2.1, show (x5 + 1).toNat = x5.toNat + 1 by omega]; rfl) | (rw [h6, hI.2.2.2.2.2.1, show (x5 + 1).toNat = x5.toNat + 1 by omega]; rfl) | (intro j h0 h1; by_cases e9 : j = x5; (focus (rw [e9, ← hI.2.2.2.2.1, ← hI.2.2.2.2.2.1]; assumption)); (focus (exact hI.2.2.2.2.2.2 j h0 (by omega)))) | (unfold rMeet; rw [if_pos (by omega)]; exact nth_eq (isNth_first (p := fun n => it (nx (s.2 6) (s.2 7)) a1 n.toNat = it (nx (s.2 6) (s.2 7)) a2 n.toNat) (by omega) (by omega) (by show it _ _ _ = it _ _ _; rw [← hI.2.2.2.2.1, ← hI.2.2.2.2.2.1]; assumption) hI.2.2.2.2.2.2)) | (unfold rMeet; rw [if_pos (by omega)]; exact nth_eq (isNth_nofirst (p := fun n => it (nx (s.2 6) (s.2 7)) a1 n.toNat = it (nx (s.2 6) (s.2 7)) a2 n.toNat) (fun z h0 h1 => hI.2.2.2.2.2.2 z h0 (by omega)))) | grind [upI])
theorem vX3_meet_4 (s : MS) (a1 : Int) (a2 : Int) (hp : tOK (s.2 6) ∧ aOK (s.2 6) (s.2 7)) (x3 : Int) (x4 : Int) (x5 : Int) (f11 : Int → Int) (f12 : Int → Int) (f13 : Int → Int) (f14 : Int → Int) (f15 : Int → Int) (f16 : Int → Int) (f17 : Int → Int) (f18 : Int → Int) (f19 : Int → Int) (k0 : Int) (k25 : Int) (k33 : Int) (k34 : Int) (hI : k0 = 0 ∧ NXO (s.2 6) (s.2 7) f13 ∧ (0 ≤ a1 ∧ a1 < s.2 6 2 ∧ 0 ≤ a2 ∧ a2 < s.2 6 2) ∧ (0 ≤ x5 ∧ x5 ≤ s.2 6 2 + 1) ∧ x3 = it (nx (s.2 6) (s.2 7)) a1 x5.toNat ∧ x4 = it (nx (s.2 6) (s.2 7)) a2 x5.toNat ∧ ∀ j : Int, 0 ≤ j → j < x5 → it (nx (s.2 6) (s.2 7)) a1 j.toNat ≠ it (nx (s.2 6) (s.2 7)) a2 j.toNat) (c_1 : ¬ (s.2 6 2) < x5) (c_2 : ¬ x3 = x4) (o_3 : (0 ≤ x3 ∧ x3 < 10000)) : (0 ≤ x4 ∧ x4 < 10000) := by
  obtain ⟨ht, ha⟩ := hp
  have hN := tOK_N ht
  have hg := nx_rng (s.2 6) (s.2 7)
  (try simp only [bI_0, bI_n, Classical.not_not] at *)
  (try have hq := ‹NXO (s.2 6) (s.2 7) _›)
  (try have hq := hI.2.1)
  (try (have h3 := it_b hg (x := a1) (by omega) (by omega) x5.toNat; rw [← hI.2.2.2.2.1] at h3; have h4 := it_b hg (x := a2) (by omega) (by omega) x5.toNat; rw [← hI.2.2.2.2.2.1] at h4; have h5 := hq x3 h3.1 h3.2; have h6 := hq x4 h4.1 h4.2))
  (try unfold lex3)
  (try simp only [bI_0, bI_n, Classical.not_not] at *)
  (try simp (disch := omega) only [i32_id] at *)
  first | done | omega | ((repeat' (with_reducible apply And.intro)) <;> first | assumption | rfl | omega | (exact hI.1) | (exact hI.2.1) | (exact hq) | (unfold rMeet; rw [if_neg (by omega)]) | (intro j h0 h1; omega) | (rw [h5, hI.2.2.2.2.1, show (x5 + 1).toNat = x5.toNat + 1 by omega]; rfl) | (rw [h6, hI.2.2.2.2.2.1, show (x5 + 1).toNat = x5.toNat + 1 by omega]; rfl) | (intro j h0 h1; by_cases e9 : j = x5; (focus (rw [e9, ← hI.2.2.2.2.1, ← hI.2.2.2.2.2.1]; assumption)); (focus (exact hI.2.2.2.2.2.2 j h0 (by omega)))) | (unfold rMeet; rw [if_pos (by omega)]; exact nth_eq (isNth_first (p := fun n => it (nx (s.2 6) (s.2 7)) a1 n.toNat = it (nx (s.2 6) (s.2 7)) a2 n.toNat) (by omega) (by omega) (by show it _ _ _ = it _ _ _; rw [← hI.2.2.2.2.1, ← hI.2.2.2.2.2.1]; assumption) hI.2.2.2.2.2.2)) | (unfold rMeet; rw [if_pos (by omega)]; exact nth_eq (isNth_nofirst (p := fun n => it (nx (s.2 6) (s.2 7)) a1 n.toNat = it (nx (s.2 6) (s.2 7)) a2 n.toNat) (fun z h0 h1 => hI.2.2.2.2.2.2 z h0 (by omega)))) | grind [upI])
theorem vX3_meet_5 (s : MS) (a1 : Int) (a2 : Int) (hp : tOK (s.2 6) ∧ aOK (s.2 6) (s.2 7)) (x3 : Int) (x4 : Int) (x5 : Int) (f11 : Int → Int) (f12 : Int → Int) (f13 : Int → Int) (f14 : Int → Int) (f15 : Int → Int) (f16 : Int → Int) (f17 : Int → Int) (f18 : Int → Int) (f19 : Int → Int) (k0 : Int) (k25 : Int) (k33 : Int) (k34 : Int) (hI : k0 = 0 ∧ NXO (s.2 6) (s.2 7) f13 ∧ (0 ≤ a1 ∧ a1 < s.2 6 2 ∧ 0 ≤ a2 ∧ a2 < s.2 6 2) ∧ (0 ≤ x5 ∧ x5 ≤ s.2 6 2 + 1) ∧ x3 = it (nx (s.2 6) (s.2 7)) a1 x5.toNat ∧ x4 = it (nx (s.2 6) (s.2 7)) a2 x5.toNat ∧ ∀ j : Int, 0 ≤ j → j < x5 → it (nx (s.2 6) (s.2 7)) a1 j.toNat ≠ it (nx (s.2 6) (s.2 7)) a2 j.toNat) (c_1 : ¬ (s.2 6 2) < x5) (c_2 : ¬ x3 = x4) (o_3 : (0 ≤ x3 ∧ x3 < 10000)) (o_4 : (0 ≤ x4 ∧ x4 < 10000)) : k0 = 0 ∧ NXO (s.2 6) (s.2 7) f13 ∧ (0 ≤ a1 ∧ a1 < s.2 6 2 ∧ 0 ≤ a2 ∧ a2 < s.2 6 2) ∧ (0 ≤ (i32 (x5 + 1)) ∧ (i32 (x5 + 1)) ≤ s.2 6 2 + 1) ∧ (f13 x3) = it (nx (s.2 6) (s.2 7)) a1 (i32 (x5 + 1)).toNat ∧ (f13 x4) = it (nx (s.2 6) (s.2 7)) a2 (i32 (x5 + 1)).toNat ∧ ∀ j : Int, 0 ≤ j → j < (i32 (x5 + 1)) → it (nx (s.2 6) (s.2 7)) a1 j.toNat ≠ it (nx (s.2 6) (s.2 7)) a2 j.toNat := by
  obtain ⟨ht, ha⟩ := hp
  have hN := tOK_N ht
  have hg := nx_rng (s.2 6) (s.2 7)
  (try simp only [bI_0, bI_n, Classical.not_not] at *)
  (try have hq := ‹NXO (s.2 6) (s.2 7) _›)
  (try have hq := hI.2.1)
  (try (have h3 := it_b hg (x := a1) (by omega) (by omega) x5.toNat; rw [← hI.2.2.2.2.1] at h3; have h4 := it_b hg (x := a2) (by omega) (by omega) x5.toNat; rw [← hI.2.2.2.2.2.1] at h4; have h5 := hq x3 h3.1 h3.2; have h6 := hq x4 h4.1 h4.2))
  (try unfold lex3)
  (try simp only [bI_0, bI_n, Classical.not_not] at *)
  (try simp (disch := omega) only [i32_id] at *)
  first | done | omega | ((repeat' (with_reducible apply And.intro)) <;> first | assumption | rfl | omega | (exact hI.1) | (exact hI.2.1) | (exact hq) | (unfold rMeet; rw [if_neg (by omega)]) | (intro j h0 h1; omega) | (rw [h5, hI.2.2.2.2.1, show (x5 + 1).toNat = x5.toNat + 1 by omega]; rfl) | (rw [h6, hI.2.2.2.2.2.1, show (x5 + 1).toNat = x5.toNat + 1 by omega]; rfl) | (intro j h0 h1; by_cases e9 : j = x5; (focus (rw [e9, ← hI.2.2.2.2.1, ← hI.2.2.2.2.2.1]; assumption)); (focus (exact hI.2.2.2.2.2.2 j h0 (by omega)))) | (unfold rMeet; rw [if_pos (by omega)]; exact nth_eq (isNth_first (p := fun n => it (nx (s.2 6) (s.2 7)) a1 n.toNat = it (nx (s.2 6) (s.2 7)) a2 n.toNat) (by omega) (by omega) (by show it _ _ _ = it _ _ _; rw [← hI.2.2.2.2.1, ← hI.2.2.2.2.2.1]; assumption) hI.2.2.2.2.2.2)) | (unfold rMeet; rw [if_pos (by omega)]; exact nth_eq (isNth_nofirst (p := fun n => it (nx (s.2 6) (s.2 7)) a1 n.toNat = it (nx (s.2 6) (s.2 7)) a2 n.toNat) (fun z h0 h1 => hI.2.2.2.2.2.2 z h0 (by omega)))) | grind [upI])
theorem vX3_meet_6 (s : MS) (a1 : Int) (a2 : Int) (hp : tOK (s.2 6) ∧ aOK (s.2 6) (s.2 7)) (x3 : Int) (x4 : Int) (x5 : Int) (f11 : Int → Int) (f12 : Int → Int) (f13 : Int → Int) (f14 : Int → Int) (f15 : Int → Int) (f16 : Int → Int) (f17 : Int → Int) (f18 : Int → Int) (f19 : Int → Int) (k0 : Int) (k25 : Int) (k33 : Int) (k34 : Int) (hI : k0 = 0 ∧ NXO (s.2 6) (s.2 7) f13 ∧ (0 ≤ a1 ∧ a1 < s.2 6 2 ∧ 0 ≤ a2 ∧ a2 < s.2 6 2) ∧ (0 ≤ x5 ∧ x5 ≤ s.2 6 2 + 1) ∧ x3 = it (nx (s.2 6) (s.2 7)) a1 x5.toNat ∧ x4 = it (nx (s.2 6) (s.2 7)) a2 x5.toNat ∧ ∀ j : Int, 0 ≤ j → j < x5 → it (nx (s.2 6) (s.2 7)) a1 j.toNat ≠ it (nx (s.2 6) (s.2 7)) a2 j.toNat) (c_1 : ¬ (s.2 6 2) < x5) (c_2 : ¬ x3 = x4) (o_3 : (0 ≤ x3 ∧ x3 < 10000)) (o_4 : (0 ≤ x4 ∧ x4 < 10000)) : lex3 0 0 ((s.2 6 2 + 1 - (i32 (x5 + 1))).toNat) 0 0 ((s.2 6 2 + 1 - x5).toNat) := by
  obtain ⟨ht, ha⟩ := hp
  have hN := tOK_N ht
  have hg := nx_rng (s.2 6) (s.2 7)
  (try simp only [bI_0, bI_n, Classical.not_not] at *)
  (try have hq := ‹NXO (s.2 6) (s.2 7) _›)
  (try have hq := hI.2.1)
  (try (have h3 := it_b hg (x := a1) (by omega) (by omega) x5.toNat; rw [← hI.2.2.2.2.1] at h3; have h4 := it_b hg (x := a2) (by omega) (by omega) x5.toNat; rw [← hI.2.2.2.2.2.1] at h4; have h5 := hq x3 h3.1 h3.2; have h6 := hq x4 h4.1 h4.2))
  (try unfold lex3)
  (try simp only [bI_0, bI_n, Classical.not_not] at *)
  (try simp (disch := omega) only [i32_id] at *)
  first | done | omega | ((repeat' (with_reducible apply And.intro)) <;> first | assumption | rfl | omega | (exact hI.1) | (exact hI.2.1) | (exact hq) | (unfold rMeet; rw [if_neg (by omega)]) | (intro j h0 h1; omega) | (rw [h5, hI.2.2.2.2.1, show (x5 + 1).toNat = x5.toNat + 1 by omega]; rfl) | (rw [h6, hI.2.2.2.2.2.1, show (x5 + 1).toNat = x5.toNat + 1 by omega]; rfl) | (intro j h0 h1; by_cases e9 : j = x5; (focus (rw [e9, ← hI.2.2.2.2.1, ← hI.2.2.2.2.2.1]; assumption)); (focus (exact hI.2.2.2.2.2.2 j h0 (by omega)))) | (unfold rMeet; rw [if_pos (by omega)]; exact nth_eq (isNth_first (p := fun n => it (nx (s.2 6) (s.2 7)) a1 n.toNat = it (nx (s.2 6) (s.2 7)) a2 n.toNat) (by omega) (by omega) (by show it _ _ _ = it _ _ _; rw [← hI.2.2.2.2.1, ← hI.2.2.2.2.2.1]; assumption) hI.2.2.2.2.2.2)) | (unfold rMeet; rw [if_pos (by omega)]; exact nth_eq (isNth_nofirst (p := fun n => it (nx (s.2 6) (s.2 7)) a1 n.toNat = it (nx (s.2 6) (s.2 7)) a2 n.toNat) (fun z h0 h1 => hI.2.2.2.2.2.2 z h0 (by omega)))) | grind [upI])
theorem vX3_meet_7 (s : MS) (a1 : Int) (a2 : Int) (hp : tOK (s.2 6) ∧ aOK (s.2 6) (s.2 7)) (x3 : Int) (x4 : Int) (x5 : Int) (f11 : Int → Int) (f12 : Int → Int) (f13 : Int → Int) (f14 : Int → Int) (f15 : Int → Int) (f16 : Int → Int) (f17 : Int → Int) (f18 : Int → Int) (f19 : Int → Int) (k0 : Int) (k25 : Int) (k33 : Int) (k34 : Int) (hI : k0 = 0 ∧ NXO (s.2 6) (s.2 7) f13 ∧ (0 ≤ a1 ∧ a1 < s.2 6 2 ∧ 0 ≤ a2 ∧ a2 < s.2 6 2) ∧ (0 ≤ x5 ∧ x5 ≤ s.2 6 2 + 1) ∧ x3 = it (nx (s.2 6) (s.2 7)) a1 x5.toNat ∧ x4 = it (nx (s.2 6) (s.2 7)) a2 x5.toNat ∧ ∀ j : Int, 0 ≤ j → j < x5 → it (nx (s.2 6) (s.2 7)) a1 j.toNat ≠ it (nx (s.2 6) (s.2 7)) a2 j.toNat) (c_1 : ¬ (s.2 6 2) < x5) (c_2 : x3 = x4) : k0 = (0) := by
  obtain ⟨ht, ha⟩ := hp
  have hN := tOK_N ht
  have hg := nx_rng (s.2 6) (s.2 7)
  (try simp only [bI_0, bI_n, Classical.not_not] at *)
  (try have hq := ‹NXO (s.2 6) (s.2 7) _›)
  (try have hq := hI.2.1)
  (try (have h3 := it_b hg (x := a1) (by omega) (by omega) x5.toNat; rw [← hI.2.2.2.2.1] at h3; have h4 := it_b hg (x := a2) (by omega) (by omega) x5.toNat; rw [← hI.2.2.2.2.2.1] at h4; have h5 := hq x3 h3.1 h3.2; have h6 := hq x4 h4.1 h4.2))
  (try unfold lex3)
  (try simp only [bI_0, bI_n, Classical.not_not] at *)
  (try simp (disch := omega) only [i32_id] at *)
  first | done | omega | ((repeat' (with_reducible apply And.intro)) <;> first | assumption | rfl | omega | (exact hI.1) | (exact hI.2.1) | (exact hq) | (unfold rMeet; rw [if_neg (by omega)]) | (intro j h0 h1; omega) | (rw [h5, hI.2.2.2.2.1, show (x5 + 1).toNat = x5.toNat + 1 by omega]; rfl) | (rw [h6, hI.2.2.2.2.2.1, show (x5 + 1).toNat = x5.toNat + 1 by omega]; rfl) | (intro j h0 h1; by_cases e9 : j = x5; (focus (rw [e9, ← hI.2.2.2.2.1, ← hI.2.2.2.2.2.1]; assumption)); (focus (exact hI.2.2.2.2.2.2 j h0 (by omega)))) | (unfold rMeet; rw [if_pos (by omega)]; exact nth_eq (isNth_first (p := fun n => it (nx (s.2 6) (s.2 7)) a1 n.toNat = it (nx (s.2 6) (s.2 7)) a2 n.toNat) (by omega) (by omega) (by show it _ _ _ = it _ _ _; rw [← hI.2.2.2.2.1, ← hI.2.2.2.2.2.1]; assumption) hI.2.2.2.2.2.2)) | (unfold rMeet; rw [if_pos (by omega)]; exact nth_eq (isNth_nofirst (p := fun n => it (nx (s.2 6) (s.2 7)) a1 n.toNat = it (nx (s.2 6) (s.2 7)) a2 n.toNat) (fun z h0 h1 => hI.2.2.2.2.2.2 z h0 (by omega)))) | grind [upI])
theorem vX3_meet_8 (s : MS) (a1 : Int) (a2 : Int) (hp : tOK (s.2 6) ∧ aOK (s.2 6) (s.2 7)) (x3 : Int) (x4 : Int) (x5 : Int) (f11 : Int → Int) (f12 : Int → Int) (f13 : Int → Int) (f14 : Int → Int) (f15 : Int → Int) (f16 : Int → Int) (f17 : Int → Int) (f18 : Int → Int) (f19 : Int → Int) (k0 : Int) (k25 : Int) (k33 : Int) (k34 : Int) (hI : k0 = 0 ∧ NXO (s.2 6) (s.2 7) f13 ∧ (0 ≤ a1 ∧ a1 < s.2 6 2 ∧ 0 ≤ a2 ∧ a2 < s.2 6 2) ∧ (0 ≤ x5 ∧ x5 ≤ s.2 6 2 + 1) ∧ x3 = it (nx (s.2 6) (s.2 7)) a1 x5.toNat ∧ x4 = it (nx (s.2 6) (s.2 7)) a2 x5.toNat ∧ ∀ j : Int, 0 ≤ j → j < x5 → it (nx (s.2 6) (s.2 7)) a1 j.toNat ≠ it (nx (s.2 6) (s.2 7)) a2 j.toNat) (c_1 : ¬ (s.2 6 2) < x5) (c_2 : x3 = x4) : x5 = (rMeet (s.2 6) (s.2 7) a1 a2) := by
  obtain ⟨ht, ha⟩ := hp
  have hN := tOK_N ht
  have hg := nx_rng (s.2 6) (s.2 7)
  (try simp only [bI_0, bI_n, Classical.not_not] at *)
  (try have hq := ‹NXO (s.2 6) (s.2 7) _›)
  (try have hq := hI.2.1)
  (try (have h3 := it_b hg (x := a1) (by omega) (by omega) x5.toNat; rw [← hI.2.2.2.2.1] at h3; have h4 := it_b hg (x := a2) (by omega) (by omega) x5.toNat; rw [← hI.2.2.2.2.2.1] at h4; have h5 := hq x3 h3.1 h3.2; have h6 := hq x4 h4.1 h4.2))
  (try unfold lex3)
  (try simp only [bI_0, bI_n, Classical.not_not] at *)
  (try simp (disch := omega) only [i32_id] at *)
  first | done | omega | ((repeat' (with_reducible apply And.intro)) <;> first | assumption | rfl | omega | (exact hI.1) | (exact hI.2.1) | (exact hq) | (unfold rMeet; rw [if_neg (by omega)]) | (intro j h0 h1; omega) | (rw [h5, hI.2.2.2.2.1, show (x5 + 1).toNat = x5.toNat + 1 by omega]; rfl) | (rw [h6, hI.2.2.2.2.2.1, show (x5 + 1).toNat = x5.toNat + 1 by omega]; rfl) | (intro j h0 h1; by_cases e9 : j = x5; (focus (rw [e9, ← hI.2.2.2.2.1, ← hI.2.2.2.2.2.1]; assumption)); (focus (exact hI.2.2.2.2.2.2 j h0 (by omega)))) | (unfold rMeet; rw [if_pos (by omega)]; exact nth_eq (isNth_first (p := fun n => it (nx (s.2 6) (s.2 7)) a1 n.toNat = it (nx (s.2 6) (s.2 7)) a2 n.toNat) (by omega) (by omega) (by show it _ _ _ = it _ _ _; rw [← hI.2.2.2.2.1, ← hI.2.2.2.2.2.1]; assumption) hI.2.2.2.2.2.2)) | (unfold rMeet; rw [if_pos (by omega)]; exact nth_eq (isNth_nofirst (p := fun n => it (nx (s.2 6) (s.2 7)) a1 n.toNat = it (nx (s.2 6) (s.2 7)) a2 n.toNat) (fun z h0 h1 => hI.2.2.2.2.2.2 z h0 (by omega)))) | grind [upI])
theorem vX3_meet_9 (s : MS) (a1 : Int) (a2 : Int) (hp : tOK (s.2 6) ∧ aOK (s.2 6) (s.2 7)) : (tOK (s.2 6)) := by
  obtain ⟨ht, ha⟩ := hp
  have hN := tOK_N ht
  have hg := nx_rng (s.2 6) (s.2 7)
  (try simp only [bI_0, bI_n, Classical.not_not] at *)
  (try have hq := ‹NXO (s.2 6) (s.2 7) _›)
  (try have hq := hI.2.1)
  (try (have h3 := it_b hg (x := a1) (by omega) (by omega) x5.toNat; rw [← hI.2.2.2.2.1] at h3; have h4 := it_b hg (x := a2) (by omega) (by omega) x5.toNat; rw [← hI.2.2.2.2.2.1] at h4; have h5 := hq x3 h3.1 h3.2; have h6 := hq x4 h4.1 h4.2))
  (try unfold lex3)
  (try simp only [bI_0, bI_n, Classical.not_not] at *)
  (try simp (disch := omega) only [i32_id] at *)
  first | done | omega | ((repeat' (with_reducible apply And.intro)) <;> first | assumption | rfl | omega | (exact hI.1) | (exact hI.2.1) | (exact hq) | (unfold rMeet; rw [if_neg (by omega)]) | (intro j h0 h1; omega) | (rw [h5, hI.2.2.2.2.1, show (x5 + 1).toNat = x5.toNat + 1 by omega]; rfl) | (rw [h6, hI.2.2.2.2.2.1, show (x5 + 1).toNat = x5.toNat + 1 by omega]; rfl) | (intro j h0 h1; by_cases e9 : j = x5; (focus (rw [e9, ← hI.2.2.2.2.1, ← hI.2.2.2.2.2.1]; assumption)); (focus (exact hI.2.2.2.2.2.2 j h0 (by omega)))) | (unfold rMeet; rw [if_pos (by omega)]; exact nth_eq (isNth_first (p := fun n => it (nx (s.2 6) (s.2 7)) a1 n.toNat = it (nx (s.2 6) (s.2 7)) a2 n.toNat) (by omega) (by omega) (by show it _ _ _ = it _ _ _; rw [← hI.2.2.2.2.1, ← hI.2.2.2.2.2.1]; assumption) hI.2.2.2.2.2.2)) | (unfold rMeet; rw [if_pos (by omega)]; exact nth_eq (isNth_nofirst (p := fun n => it (nx (s.2 6) (s.2 7)) a1 n.toNat = it (nx (s.2 6) (s.2 7)) a2 n.toNat) (fun z h0 h1 => hI.2.2.2.2.2.2 z h0 (by omega)))) | grind [upI])
theorem vX3_meet_10 (s : MS) (a1 : Int) (a2 : Int) (hp : tOK (s.2 6) ∧ aOK (s.2 6) (s.2 7)) (o_1 : (tOK (s.2 6))) (c_3 : (bI (0 ≤ a1 ∧ a1 < (s.2 6) 2)) = 0) : (-2) = (rMeet (s.2 6) (s.2 7) a1 a2) := by
  obtain ⟨ht, ha⟩ := hp
  have hN := tOK_N ht
  have hg := nx_rng (s.2 6) (s.2 7)
  (try simp only [bI_0, bI_n, Classical.not_not] at *)
  (try have hq := ‹NXO (s.2 6) (s.2 7) _›)
  (try have hq := hI.2.1)
  (try (have h3 := it_b hg (x := a1) (by omega) (by omega) x5.toNat; rw [← hI.2.2.2.2.1] at h3; have h4 := it_b hg (x := a2) (by omega) (by omega) x5.toNat; rw [← hI.2.2.2.2.2.1] at h4; have h5 := hq x3 h3.1 h3.2; have h6 := hq x4 h4.1 h4.2))
  (try unfold lex3)
  (try simp only [bI_0, bI_n, Classical.not_not] at *)
  (try simp (disch := omega) only [i32_id] at *)
  first | done | omega | ((repeat' (with_reducible apply And.intro)) <;> first | assumption | rfl | omega | (exact hI.1) | (exact hI.2.1) | (exact hq) | (unfold rMeet; rw [if_neg (by omega)]) | (intro j h0 h1; omega) | (rw [h5, hI.2.2.2.2.1, show (x5 + 1).toNat = x5.toNat + 1 by omega]; rfl) | (rw [h6, hI.2.2.2.2.2.1, show (x5 + 1).toNat = x5.toNat + 1 by omega]; rfl) | (intro j h0 h1; by_cases e9 : j = x5; (focus (rw [e9, ← hI.2.2.2.2.1, ← hI.2.2.2.2.2.1]; assumption)); (focus (exact hI.2.2.2.2.2.2 j h0 (by omega)))) | (unfold rMeet; rw [if_pos (by omega)]; exact nth_eq (isNth_first (p := fun n => it (nx (s.2 6) (s.2 7)) a1 n.toNat = it (nx (s.2 6) (s.2 7)) a2 n.toNat) (by omega) (by omega) (by show it _ _ _ = it _ _ _; rw [← hI.2.2.2.2.1, ← hI.2.2.2.2.2.1]; assumption) hI.2.2.2.2.2.2)) | (unfold rMeet; rw [if_pos (by omega)]; exact nth_eq (isNth_nofirst (p := fun n => it (nx (s.2 6) (s.2 7)) a1 n.toNat = it (nx (s.2 6) (s.2 7)) a2 n.toNat) (fun z h0 h1 => hI.2.2.2.2.2.2 z h0 (by omega)))) | grind [upI])
theorem vX3_meet_11 (s : MS) (a1 : Int) (a2 : Int) (hp : tOK (s.2 6) ∧ aOK (s.2 6) (s.2 7)) (o_1 : (tOK (s.2 6))) (c_3 : ¬ (bI (0 ≤ a1 ∧ a1 < (s.2 6) 2)) = 0) (c_5 : ¬ (bI (0 ≤ a2 ∧ a2 < (s.2 6) 2)) = 0) : (tOK (s.2 6) ∧ aOK (s.2 6) (s.2 7)) := by
  obtain ⟨ht, ha⟩ := hp
  have hN := tOK_N ht
  have hg := nx_rng (s.2 6) (s.2 7)
  (try simp only [bI_0, bI_n, Classical.not_not] at *)
  (try have hq := ‹NXO (s.2 6) (s.2 7) _›)
  (try have hq := hI.2.1)
  (try (have h3 := it_b hg (x := a1) (by omega) (by omega) x5.toNat; rw [← hI.2.2.2.2.1] at h3; have h4 := it_b hg (x := a2) (by omega) (by omega) x5.toNat; rw [← hI.2.2.2.2.2.1] at h4; have h5 := hq x3 h3.1 h3.2; have h6 := hq x4 h4.1 h4.2))
  (try unfold lex3)
  (try simp only [bI_0, bI_n, Classical.not_not] at *)
  (try simp (disch := omega) only [i32_id] at *)
  first | done | omega | ((repeat' (with_reducible apply And.intro)) <;> first | assumption | rfl | omega | (exact hI.1) | (exact hI.2.1) | (exact hq) | (unfold rMeet; rw [if_neg (by omega)]) | (intro j h0 h1; omega) | (rw [h5, hI.2.2.2.2.1, show (x5 + 1).toNat = x5.toNat + 1 by omega]; rfl) | (rw [h6, hI.2.2.2.2.2.1, show (x5 + 1).toNat = x5.toNat + 1 by omega]; rfl) | (intro j h0 h1; by_cases e9 : j = x5; (focus (rw [e9, ← hI.2.2.2.2.1, ← hI.2.2.2.2.2.1]; assumption)); (focus (exact hI.2.2.2.2.2.2 j h0 (by omega)))) | (unfold rMeet; rw [if_pos (by omega)]; exact nth_eq (isNth_first (p := fun n => it (nx (s.2 6) (s.2 7)) a1 n.toNat = it (nx (s.2 6) (s.2 7)) a2 n.toNat) (by omega) (by omega) (by show it _ _ _ = it _ _ _; rw [← hI.2.2.2.2.1, ← hI.2.2.2.2.2.1]; assumption) hI.2.2.2.2.2.2)) | (unfold rMeet; rw [if_pos (by omega)]; exact nth_eq (isNth_nofirst (p := fun n => it (nx (s.2 6) (s.2 7)) a1 n.toNat = it (nx (s.2 6) (s.2 7)) a2 n.toNat) (fun z h0 h1 => hI.2.2.2.2.2.2 z h0 (by omega)))) | grind [upI])
theorem vX3_meet_12 (s : MS) (a1 : Int) (a2 : Int) (hp : tOK (s.2 6) ∧ aOK (s.2 6) (s.2 7)) (o_1 : (tOK (s.2 6))) (c_3 : ¬ (bI (0 ≤ a1 ∧ a1 < (s.2 6) 2)) = 0) (c_5 : ¬ (bI (0 ≤ a2 ∧ a2 < (s.2 6) 2)) = 0) (o_6 : (tOK (s.2 6) ∧ aOK (s.2 6) (s.2 7))) (f_7 : Int → Int) (f_8 : Int → Int) (f_9 : Int → Int) (k_10 : Int) (q_11 : (NXO (s.2 6) (s.2 7) f_9)) : (0 : Int) = 0 ∧ NXO (s.2 6) (s.2 7) f_9 ∧ (0 ≤ a1 ∧ a1 < s.2 6 2 ∧ 0 ≤ a2 ∧ a2 < s.2 6 2) ∧ (0 ≤ (0 : Int) ∧ (0 : Int) ≤ s.2 6 2 + 1) ∧ a1 = it (nx (s.2 6) (s.2 7)) a1 (0 : Int).toNat ∧ a2 = it (nx (s.2 6) (s.2 7)) a2 (0 : Int).toNat ∧ ∀ j : Int, 0 ≤ j → j < (0 : Int) → it (nx (s.2 6) (s.2 7)) a1 j.toNat ≠ it (nx (s.2 6) (s.2 7)) a2 j.toNat := by
  obtain ⟨ht, ha⟩ := hp
  have hN := tOK_N ht
  have hg := nx_rng (s.2 6) (s.2 7)
  (try simp only [bI_0, bI_n, Classical.not_not] at *)
  (try have hq := ‹NXO (s.2 6) (s.2 7) _›)
  (try have hq := hI.2.1)
  (try (have h3 := it_b hg (x := a1) (by omega) (by omega) x5.toNat; rw [← hI.2.2.2.2.1] at h3; have h4 := it_b hg (x := a2) (by omega) (by omega) x5.toNat; rw [← hI.2.2.2.2.2.1] at h4; have h5 := hq x3 h3.1 h3.2; have h6 := hq x4 h4.1 h4.2))
  (try unfold lex3)
  (try simp only [bI_0, bI_n, Classical.not_not] at *)
  (try simp (disch := omega) only [i32_id] at *)
  first | done | omega | ((repeat' (with_reducible apply And.intro)) <;> first | assumption | rfl | omega | (exact hI.1) | (exact hI.2.1) | (exact hq) | (unfold rMeet; rw [if_neg (by omega)]) | (intro j h0 h1; omega) | (rw [h5, hI.2.2.2.2.1, show (x5 + 1).toNat = x5.toNat + 1 by omega]; rfl) | (rw [h6, hI.2.2.2.2.2.1, show (x5 + 1).toNat = x5.toNat + 1 by omega]; rfl) | (intro j h0 h1; by_cases e9 : j = x5; (focus (rw [e9, ← hI.2.2.2.2.1, ← hI.2.2.2.2.2.1]; assumption)); (focus (exact hI.2.2.2.2.2.2 j h0 (by omega)))) | (unfold rMeet; rw [if_pos (by omega)]; exact nth_eq (isNth_first (p := fun n => it (nx (s.2 6) (s.2 7)) a1 n.toNat = it (nx (s.2 6) (s.2 7)) a2 n.toNat) (by omega) (by omega) (by show it _ _ _ = it _ _ _; rw [← hI.2.2.2.2.1, ← hI.2.2.2.2.2.1]; assumption) hI.2.2.2.2.2.2)) | (unfold rMeet; rw [if_pos (by omega)]; exact nth_eq (isNth_nofirst (p := fun n => it (nx (s.2 6) (s.2 7)) a1 n.toNat = it (nx (s.2 6) (s.2 7)) a2 n.toNat) (fun z h0 h1 => hI.2.2.2.2.2.2 z h0 (by omega)))) | grind [upI])
theorem vX3_meet_13 (s : MS) (a1 : Int) (a2 : Int) (hp : tOK (s.2 6) ∧ aOK (s.2 6) (s.2 7)) (o_1 : (tOK (s.2 6))) (c_3 : ¬ (bI (0 ≤ a1 ∧ a1 < (s.2 6) 2)) = 0) (c_5 : (bI (0 ≤ a2 ∧ a2 < (s.2 6) 2)) = 0) : (-2) = (rMeet (s.2 6) (s.2 7) a1 a2) := by
  obtain ⟨ht, ha⟩ := hp
  have hN := tOK_N ht
  have hg := nx_rng (s.2 6) (s.2 7)
  (try simp only [bI_0, bI_n, Classical.not_not] at *)
  (try have hq := ‹NXO (s.2 6) (s.2 7) _›)
  (try have hq := hI.2.1)
  (try (have h3 := it_b hg (x := a1) (by omega) (by omega) x5.toNat; rw [← hI.2.2.2.2.1] at h3; have h4 := it_b hg (x := a2) (by omega) (by omega) x5.toNat; rw [← hI.2.2.2.2.2.1] at h4; have h5 := hq x3 h3.1 h3.2; have h6 := hq x4 h4.1 h4.2))
  (try unfold lex3)
  (try simp only [bI_0, bI_n, Classical.not_not] at *)
  (try simp (disch := omega) only [i32_id] at *)
  first | done | omega | ((repeat' (with_reducible apply And.intro)) <;> first | assumption | rfl | omega | (exact hI.1) | (exact hI.2.1) | (exact hq) | (unfold rMeet; rw [if_neg (by omega)]) | (intro j h0 h1; omega) | (rw [h5, hI.2.2.2.2.1, show (x5 + 1).toNat = x5.toNat + 1 by omega]; rfl) | (rw [h6, hI.2.2.2.2.2.1, show (x5 + 1).toNat = x5.toNat + 1 by omega]; rfl) | (intro j h0 h1; by_cases e9 : j = x5; (focus (rw [e9, ← hI.2.2.2.2.1, ← hI.2.2.2.2.2.1]; assumption)); (focus (exact hI.2.2.2.2.2.2 j h0 (by omega)))) | (unfold rMeet; rw [if_pos (by omega)]; exact nth_eq (isNth_first (p := fun n => it (nx (s.2 6) (s.2 7)) a1 n.toNat = it (nx (s.2 6) (s.2 7)) a2 n.toNat) (by omega) (by omega) (by show it _ _ _ = it _ _ _; rw [← hI.2.2.2.2.1, ← hI.2.2.2.2.2.1]; assumption) hI.2.2.2.2.2.2)) | (unfold rMeet; rw [if_pos (by omega)]; exact nth_eq (isNth_nofirst (p := fun n => it (nx (s.2 6) (s.2 7)) a1 n.toNat = it (nx (s.2 6) (s.2 7)) a2 n.toNat) (fun z h0 h1 => hI.2.2.2.2.2.2 z h0 (by omega)))) | grind [upI])
theorem allX3_meet (b : AH) (s : MS) (a1 : Int) (a2 : Int) (hp : tOK (s.2 6) ∧ aOK (s.2 6) (s.2 7)) : ∀ m1 m2 m3 : Nat, (∀ (x3 : Int) (x4 : Int) (x5 : Int) (f11 : Int → Int) (f12 : Int → Int) (f13 : Int → Int) (f14 : Int → Int) (f15 : Int → Int) (f16 : Int → Int) (f17 : Int → Int) (f18 : Int → Int) (f19 : Int → Int) (k0 : Int) (k25 : Int) (k33 : Int) (k34 : Int), m1 = 0 → m2 = 0 → m3 = ((s.2 6 2 + 1 - x5).toNat) → (k0 = 0 ∧ NXO (s.2 6) (s.2 7) f13 ∧ (0 ≤ a1 ∧ a1 < s.2 6 2 ∧ 0 ≤ a2 ∧ a2 < s.2 6 2) ∧ (0 ≤ x5 ∧ x5 ≤ s.2 6 2 + 1) ∧ x3 = it (nx (s.2 6) (s.2 7)) a1 x5.toNat ∧ x4 = it (nx (s.2 6) (s.2 7)) a2 x5.toNat ∧ ∀ j : Int, 0 ≤ j → j < x5 → it (nx (s.2 6) (s.2 7)) a1 j.toNat ≠ it (nx (s.2 6) (s.2 7)) a2 j.toNat) → HX3_meet_38 (QX3_meet s a1 a2) b s x3 x4 x5 f11 f12 f13 f14 f15 f16 f17 f18 f19 k0 k25 k33 k34) := by
  refine lex3_ind ?_
  intro m1 m2 m3 ih
  rintro x3 x4 x5 f11 f12 f13 f14 f15 f16 f17 f18 f19 k0 k25 k33 k34 rfl rfl rfl hI
  refine bX3_meet_38 b s x3 x4 x5 f11 f12 f13 f14 f15 f16 f17 f18 f19 k0 k25 k33 k34 ?_
  refine ⟨fun c_1 => ?_, fun c_1 => ?_⟩
  · exact ⟨f11, f12, f13, f14, f15, f16, f17, f18, f19, k25, k33, k34, (rI_c (vX3_meet_2 s a1 a2 hp x3 x4 x5 f11 f12 f13 f14 f15 f16 f17 f18 f19 k0 k25 k33 k34 hI c_1)), (sS_c (sS_c (sS_c (sS_c (sA_c (sA_c (sA_c (sA_c (sA_c (sA_c (sA_c (sA_c (sA_c rfl rfl) rfl) rfl) rfl) rfl) rfl) rfl) rfl) rfl) (vX3_meet_1 s a1 a2 hp x3 x4 x5 f11 f12 f13 f14 f15 f16 f17 f18 f19 k0 k25 k33 k34 hI c_1)) rfl) rfl) rfl)⟩
  · refine ⟨fun c_2 => ?_, fun c_2 => ?_⟩
    · have o_3 : (0 ≤ x3 ∧ x3 < 10000) := (vX3_meet_3 s a1 a2 hp x3 x4 x5 f11 f12 f13 f14 f15 f16 f17 f18 f19 k0 k25 k33 k34 hI c_1 c_2)
      refine ⟨o_3, ?_⟩
      have o_4 : (0 ≤ x4 ∧ x4 < 10000) := (vX3_meet_4 s a1 a2 hp x3 x4 x5 f11 f12 f13 f14 f15 f16 f17 f18 f19 k0 k25 k33 k34 hI c_1 c_2 o_3)
      refine ⟨o_4, ?_⟩
      exact (ih _ _ _ (vX3_meet_6 s a1 a2 hp x3 x4 x5 f11 f12 f13 f14 f15 f16 f17 f18 f19 k0 k25 k33 k34 hI c_1 c_2 o_3 o_4)) (f13 x3) (f13 x4) (i32 (x5 + 1)) f11 f12 f13 f14 f15 f16 f17 f18 f19 k0 k25 k33 k34 rfl rfl rfl (vX3_meet_5 s a1 a2 hp x3 x4 x5 f11 f12 f13 f14 f15 f16 f17 f18 f19 k0 k25 k33 k34 hI c_1 c_2 o_3 o_4)
    · exact ⟨f11, f12, f13, f14, f15, f16, f17, f18, f19, k25, k33, k34, (rI_c (vX3_meet_8 s a1 a2 hp x3 x4 x5 f11 f12 f13 f14 f15 f16 f17 f18 f19 k0 k25 k33 k34 hI c_1 c_2)), (sS_c (sS_c (sS_c (sS_c (sA_c (sA_c (sA_c (sA_c (sA_c (sA_c (sA_c (sA_c (sA_c rfl rfl) rfl) rfl) rfl) rfl) rfl) rfl) rfl) rfl) (vX3_meet_7 s a1 a2 hp x3 x4 x5 f11 f12 f13 f14 f15 f16 f17 f18 f19 k0 k25 k33 k34 hI c_1 c_2)) rfl) rfl) rfl)⟩
theorem ctX3_meet (b : AH) (s : MS) (a1 : Int) (a2 : Int) (hp : tOK (s.2 6) ∧ aOK (s.2 6) (s.2 7)) : MC mX3_meet 8 b s [vI a1, vI a2] (QX3_meet s a1 a2) := by
  refine MC.of (by decide) rfl (Nat.le_of_ble_eq_true rfl) (JW.steq (s2 := sS (sS (sS (sS (sA (sA (sA (sA (sA (sA (sA (sA (sA s 11 (s.2 11)) 12 (s.2 12)) 13 (s.2 13)) 14 (s.2 14)) 15 (s.2 15)) 16 (s.2 16)) 17 (s.2 17)) 18 (s.2 18)) 19 (s.2 19)) 0 (s.1 0)) 25 (s.1 25)) 33 (s.1 33)) 34 (s.1 34)) (by simp only [sA_id, sS_id]) ?_)
  refine bX3_meet_0 b s a1 a2 (s.2 11) (s.2 12) (s.2 13) (s.2 14) (s.2 15) (s.2 16) (s.2 17) (s.2 18) (s.2 19) (s.1 0) (s.1 25) (s.1 33) (s.1 34) ?_
  have o_1 : (tOK (s.2 6)) := (vX3_meet_9 s a1 a2 hp)
  refine ⟨o_1, ?_⟩
  refine ⟨fun c_3 => ?_, fun c_3 => ?_⟩
  · exact ⟨(s.2 11), (s.2 12), (s.2 13), (s.2 14), (s.2 15), (s.2 16), (s.2 17), (s.2 18), (s.2 19), (s.1 25), (s.1 33), (s.1 34), (rI_c (vX3_meet_10 s a1 a2 hp o_1 c_3)), rfl⟩
  · refine ⟨fun c_5 => ?_, fun c_5 => ?_⟩
    · have o_6 : (tOK (s.2 6) ∧ aOK (s.2 6) (s.2 7)) := (vX3_meet_11 s a1 a2 hp o_1 c_3 c_5)
      refine ⟨o_6, ?_⟩
      intro f_7 f_8 f_9 k_10 q_11
      exact (allX3_meet b s a1 a2 hp _ _ _) a1 a2 0 f_7 f_8 f_9 (s.2 14) (s.2 15) (s.2 16) (s.2 17) (s.2 18) (s.2 19) 0 k_10 (s.1 33) (s.1 34) rfl rfl rfl (vX3_meet_12 s a1 a2 hp o_1 c_3 c_5 o_6 f_7 f_8 f_9 k_10 q_11)
    · exact ⟨(s.2 11), (s.2 12), (s.2 13), (s.2 14), (s.2 15), (s.2 16), (s.2 17), (s.2 18), (s.2 19), (s.1 25), (s.1 33), (s.1 34), (rI_c (vX3_meet_13 s a1 a2 hp o_1 c_3 c_5)), rfl⟩
