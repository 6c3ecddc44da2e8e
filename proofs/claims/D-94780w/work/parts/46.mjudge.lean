/-! contracts of the reference: judge evening -/
set_option maxRecDepth 100000
def HX3_judge_0 (Q : Option AV → MS → Prop) (b : AH) (s : MS) (x1 : Int) (f11 : Int → Int) (f12 : Int → Int) (k0 : Int) (k25 : Int) : Prop := MW mX3_judge 8 Q b 0 [(0, vR 351), (1, vI x1)] [] (sS (sS (sA (sA s 11 f11) 12 f12) 0 k0) 25 k25)
def HX3_judge_37 (Q : Option AV → MS → Prop) (b : AH) (s : MS) (x1 : Int) (x2 : Int) (f11 : Int → Int) (f12 : Int → Int) (k0 : Int) (k25 : Int) : Prop := MW mX3_judge 8 Q b 37 [(0, vR 351), (1, vI x1), (2, vI x2)] [] (sS (sS (sA (sA s 11 f11) 12 f12) 0 k0) 25 k25)
theorem bX3_judge_0 {Q : Option AV → MS → Prop} (b : AH) (s : MS) (x1 : Int) (f11 : Int → Int) (f12 : Int → Int) (k0 : Int) (k25 : Int) (K : ((bI (0 ≤ x1 ∧ x1 ≤ 3)) = 0 → Q (some (vI (-2))) (sS (sS (sA (sA s 11 f11) 12 f12) 0 0) 25 k25)) ∧ (¬ (bI (0 ≤ x1 ∧ x1 ≤ 3)) = 0 → (¬ (bI (0 < (s.2 5) 0)) = 0 → (0 ≤ x1 ∧ x1 < 4) ∧ ((¬ (s.2 0 x1) = (-1) → HX3_judge_37 Q b s x1 0 f11 f12 0 k25) ∧ ((s.2 0 x1) = (-1) → Q (some (vI (-6))) (sS (sS (sA (sA s 11 f11) 12 f12) 0 0) 25 k25)))) ∧ ((bI (0 < (s.2 5) 0)) = 0 → Q (some (vI (-2))) (sS (sS (sA (sA s 11 f11) 12 f12) 0 0) 25 k25)))) : HX3_judge_0 Q b s x1 f11 f12 k0 k25 := by
  refine JW.aload_n dX3_judge_0 rfl ?_
  refine JW.iconst dX3_judge_1 rfl ?_
  refine JW.mputI dX3_judge_2 (pX3_77 _) rfl ?_
  refine JW.steq (s2 := sS (sS (sA (sA s 11 f11) 12 f12) 0 0) 25 k25) (by simp only [sA_A, sS_S, sA_S, sA_lt, sS_lt, Nat.reduceLT, id_eq] <;> rfl) ?_
  refine JW.iload_n dX3_judge_5 rfl ?_
  refine JW.mcallS (As := [vI x1]) dX3_judge_6 vX3_isSlot q1628 (ctX3_isSlot b (sS (sS (sA (sA s 11 f11) 12 f12) 0 0) 25 k25) x1) (Nat.le_of_ble_eq_true rfl) rfl (Nat.le_of_ble_eq_true rfl) ?_
  rintro _ _ ⟨rfl, eq_1⟩
  refine JW.steq (s2 := sS (sS (sA (sA s 11 f11) 12 f12) 0 0) 25 k25) eq_1 ?_
  refine JW.if_eq (tgt := 19) dX3_judge_9 rfl (fun c_2 => ?_) (fun c_2 => ?_)
  · have K := K.1 c_2
    refine JW.bipush dX3_judge_19 rfl ?_
    exact JW.ireturn dX3_judge_21 rfl rfl ⟨_, rfl, K⟩
  · have K := K.2 c_2
    refine JW.aload_n dX3_judge_12 rfl ?_
    refine JW.mcall (As := []) dX3_judge_13 vX3_isTable rfl q1798 (ctX3_isTable b (sS (sS (sA (sA s 11 f11) 12 f12) 0 0) 25 k25)) (Nat.le_of_ble_eq_true rfl) rfl (Nat.le_of_ble_eq_true rfl) ?_
    rintro _ _ ⟨rfl, eq_3⟩
    refine JW.steq (s2 := sS (sS (sA (sA s 11 f11) 12 f12) 0 0) 25 k25) eq_3 ?_
    refine JW.if_ne (tgt := 22) dX3_judge_16 rfl (fun c_4 => ?_) (fun c_4 => ?_)
    · have K := K.1 c_4
      refine JW.aload_n dX3_judge_22 rfl ?_
      refine JW.mget (v := vR 352) dX3_judge_23 fX3_7 rfl ?_
      refine JW.iload_n dX3_judge_26 rfl ?_
      obtain ⟨o_5, K⟩ := K
      refine JW.mald 0 (x := (s.2 0 x1)) dX3_judge_27 (Nat.le_of_ble_eq_true rfl) rfl o_5.1 o_5.2 rfl ?_
      refine JW.iconst dX3_judge_28 rfl ?_
      refine JW.icmp_ne (tgt := 35) dX3_judge_29 rfl (fun c_6 => ?_) (fun c_6 => ?_)
      · have K := K.1 c_6
        refine JW.iconst dX3_judge_35 rfl ?_
        refine JW.istore_n (ls' := [(0, vR 351), (1, vI x1), (2, vI 0)]) dX3_judge_36 (Nat.le_of_ble_eq_true rfl) rfl ?_
        exact JW.pick [0, 1, 2] rfl K
      · have K := K.2 c_6
        refine JW.bipush dX3_judge_32 rfl ?_
        exact JW.ireturn dX3_judge_34 rfl rfl ⟨_, rfl, K⟩
    · have K := K.2 c_4
      refine JW.bipush dX3_judge_19 rfl ?_
      exact JW.ireturn dX3_judge_21 rfl rfl ⟨_, rfl, K⟩
theorem bX3_judge_37 {Q : Option AV → MS → Prop} (b : AH) (s : MS) (x1 : Int) (x2 : Int) (f11 : Int → Int) (f12 : Int → Int) (k0 : Int) (k25 : Int) (K : (0 ≤ x1 ∧ x1 < 4) ∧ (((s.2 1 x1) ≤ x2 → Q (some (vI (s.2 1 x1))) (sS (sS (sA (sA s 11 f11) 12 f12) 0 k0) 25 k25)) ∧ (¬ (s.2 1 x1) ≤ x2 → (0 ≤ (i32 ((i32 (60 * x1)) + x2)) ∧ (i32 ((i32 (60 * x1)) + x2)) < 240) ∧ ((tOK (s.2 6)) ∧ (((bI (0 ≤ (s.2 2 (i32 ((i32 (60 * x1)) + x2))) ∧ (s.2 2 (i32 ((i32 (60 * x1)) + x2))) < (s.2 6) 2)) = 0 → Q (some (vI x2)) (sS (sS (sA (sA s 11 f11) 12 f12) 0 k0) 25 k25)) ∧ (¬ (bI (0 ≤ (s.2 2 (i32 ((i32 (60 * x1)) + x2))) ∧ (s.2 2 (i32 ((i32 (60 * x1)) + x2))) < (s.2 6) 2)) = 0 → (x2 ≤ 0 → HX3_judge_37 Q b s x1 (i32 (x2 + 1)) f11 f12 k0 k25) ∧ (¬ x2 ≤ 0 → (0 ≤ (i32 ((i32 ((i32 (60 * x1)) + x2)) - 1)) ∧ (i32 ((i32 ((i32 (60 * x1)) + x2)) - 1)) < 240) ∧ ((tOK (s.2 6) ∧ aOK (s.2 6) (s.2 7) ∧ 0 ≤ (i32 (s.2 2 (i32 ((i32 ((i32 (60 * x1)) + x2)) - 1)))) ∧ (i32 (s.2 2 (i32 ((i32 ((i32 (60 * x1)) + x2)) - 1)))) < (s.2 6) 2 ∧ 0 ≤ (s.2 6 3) ∧ (s.2 6 3) ≤ (s.2 6) 3) ∧ ((∀ (f_10 : Int → Int) (f_11 : Int → Int), ((jcmp (s.2 2 (i32 ((i32 (60 * x1)) + x2))) ((thrS (s.2 6) (s.2 7) (i32 (s.2 2 (i32 ((i32 ((i32 (60 * x1)) + x2)) - 1)))) ((s.2 6 3)).toNat).2)) = 0 → HX3_judge_37 Q b s x1 (i32 (x2 + 1)) f_10 f_11 k0 ((thrS (s.2 6) (s.2 7) (i32 (s.2 2 (i32 ((i32 ((i32 (60 * x1)) + x2)) - 1)))) ((s.2 6 3)).toNat).1)) ∧ (¬ (jcmp (s.2 2 (i32 ((i32 (60 * x1)) + x2))) ((thrS (s.2 6) (s.2 7) (i32 (s.2 2 (i32 ((i32 ((i32 (60 * x1)) + x2)) - 1)))) ((s.2 6 3)).toNat).2)) = 0 → Q (some (vI x2)) (sS (sS (sA (sA s 11 f_10) 12 f_11) 0 k0) 25 ((thrS (s.2 6) (s.2 7) (i32 (s.2 2 (i32 ((i32 ((i32 (60 * x1)) + x2)) - 1)))) ((s.2 6 3)).toNat).1))))))))))))) : HX3_judge_37 Q b s x1 x2 f11 f12 k0 k25 := by
  refine JW.iload_n dX3_judge_37 rfl ?_
  refine JW.aload_n dX3_judge_38 rfl ?_
  refine JW.mget (v := vR 353) dX3_judge_39 fX3_13 rfl ?_
  refine JW.iload_n dX3_judge_42 rfl ?_
  obtain ⟨o_1, K⟩ := K
  refine JW.mald 1 (x := (s.2 1 x1)) dX3_judge_43 (Nat.le_of_ble_eq_true rfl) rfl o_1.1 o_1.2 rfl ?_
  refine JW.icmp_ge (tgt := 109) dX3_judge_44 rfl (fun c_2 => ?_) (fun c_2 => ?_)
  · have K := K.1 c_2
    refine JW.aload_n dX3_judge_109 rfl ?_
    refine JW.mget (v := vR 353) dX3_judge_110 fX3_13 rfl ?_
    refine JW.iload_n dX3_judge_113 rfl ?_
    refine JW.mald 1 (x := (s.2 1 x1)) dX3_judge_114 (Nat.le_of_ble_eq_true rfl) rfl o_1.1 o_1.2 rfl ?_
    exact JW.ireturn dX3_judge_115 rfl rfl ⟨_, rfl, K⟩
  · have K := K.2 c_2
    refine JW.aload_n dX3_judge_47 rfl ?_
    refine JW.mget (v := vR 354) dX3_judge_48 fX3_16 rfl ?_
    refine JW.bipush dX3_judge_51 rfl ?_
    refine JW.iload_n dX3_judge_53 rfl ?_
    refine JW.imul dX3_judge_54 ?_
    refine JW.iload_n dX3_judge_55 rfl ?_
    refine JW.iadd dX3_judge_56 ?_
    obtain ⟨o_3, K⟩ := K
    refine JW.mlld 2 (x := (s.2 2 (i32 ((i32 (60 * x1)) + x2)))) dX3_judge_57 (Nat.le_of_ble_eq_true rfl) rfl o_3.1 o_3.2 rfl ?_
    refine JW.lstore_n (ls' := [(0, vR 351), (1, vI x1), (2, vI x2), (3, vL (s.2 2 (i32 ((i32 (60 * x1)) + x2))))]) dX3_judge_58 (Nat.le_of_ble_eq_true rfl) rfl ?_
    refine JW.aload_n dX3_judge_59 rfl ?_
    refine JW.lload_n dX3_judge_60 rfl ?_
    obtain ⟨o_4, K⟩ := K
    refine JW.mcall (As := [vL (s.2 2 (i32 ((i32 (60 * x1)) + x2)))]) dX3_judge_61 vX3_isNumber rfl q1806 (ctX3_isNumber b (sS (sS (sA (sA s 11 f11) 12 f12) 0 k0) 25 k25) (s.2 2 (i32 ((i32 (60 * x1)) + x2))) o_4) (Nat.le_of_ble_eq_true rfl) rfl (Nat.le_of_ble_eq_true rfl) ?_
    rintro _ _ ⟨rfl, eq_5⟩
    refine JW.steq (s2 := sS (sS (sA (sA s 11 f11) 12 f12) 0 k0) 25 k25) eq_5 ?_
    refine JW.if_eq (tgt := 101) dX3_judge_64 rfl (fun c_6 => ?_) (fun c_6 => ?_)
    · have K := K.1 c_6
      refine JW.iload_n dX3_judge_101 rfl ?_
      exact JW.ireturn dX3_judge_102 rfl rfl ⟨_, rfl, K⟩
    · have K := K.2 c_6
      refine JW.iload_n dX3_judge_67 rfl ?_
      refine JW.if_le (tgt := 103) dX3_judge_68 rfl (fun c_7 => ?_) (fun c_7 => ?_)
      · have K := K.1 c_7
        refine JW.iinc (ls' := [(0, vR 351), (1, vI x1), (2, vI (i32 (x2 + 1))), (3, vL (s.2 2 (i32 ((i32 (60 * x1)) + x2))))]) dX3_judge_103 (Nat.le_of_ble_eq_true rfl) rfl rfl ?_
        refine JW.goto (tgt := 37) dX3_judge_106 rfl ?_
        exact JW.pick [0, 1, 2] rfl K
      · have K := K.2 c_7
        refine JW.lload_n dX3_judge_71 rfl ?_
        refine JW.aload_n dX3_judge_72 rfl ?_
        refine JW.aload_n dX3_judge_73 rfl ?_
        refine JW.mget (v := vR 354) dX3_judge_74 fX3_16 rfl ?_
        refine JW.bipush dX3_judge_77 rfl ?_
        refine JW.iload_n dX3_judge_79 rfl ?_
        refine JW.imul dX3_judge_80 ?_
        refine JW.iload_n dX3_judge_81 rfl ?_
        refine JW.iadd dX3_judge_82 ?_
        refine JW.iconst dX3_judge_83 rfl ?_
        refine JW.isub dX3_judge_84 ?_
        obtain ⟨o_8, K⟩ := K
        refine JW.mlld 2 (x := (s.2 2 (i32 ((i32 ((i32 (60 * x1)) + x2)) - 1)))) dX3_judge_85 (Nat.le_of_ble_eq_true rfl) rfl o_8.1 o_8.2 rfl ?_
        refine JW.l2i dX3_judge_86 ?_
        refine JW.aload_n dX3_judge_87 rfl ?_
        refine JW.mget (v := vR 358) dX3_judge_88 fX3_34 rfl ?_
        refine JW.iconst dX3_judge_91 rfl ?_
        refine JW.mald 6 (x := (s.2 6 3)) dX3_judge_92 (Nat.le_of_ble_eq_true rfl) rfl (by decide) (by decide) rfl ?_
        obtain ⟨o_9, K⟩ := K
        refine JW.mcall (As := [vI (i32 (s.2 2 (i32 ((i32 ((i32 (60 * x1)) + x2)) - 1)))), vI (s.2 6 3)]) dX3_judge_93 vX3_through0 rfl q1818 (ctX3_through0 b (sS (sS (sA (sA s 11 f11) 12 f12) 0 k0) 25 k25) (i32 (s.2 2 (i32 ((i32 ((i32 (60 * x1)) + x2)) - 1)))) (s.2 6 3) o_9) (Nat.le_of_ble_eq_true rfl) rfl (Nat.le_of_ble_eq_true rfl) ?_
        rintro _ _ ⟨f_10, f_11, rfl, rfl⟩
        refine JW.steq (s2 := sS (sS (sA (sA s 11 f_10) 12 f_11) 0 k0) 25 ((thrS (s.2 6) (s.2 7) (i32 (s.2 2 (i32 ((i32 ((i32 (60 * x1)) + x2)) - 1)))) ((s.2 6 3)).toNat).1)) (by simp only [sA_A, sS_S, sA_S, sA_lt, sS_lt, Nat.reduceLT, id_eq] <;> rfl) ?_
        replace K := K f_10 f_11
        refine JW.i2l dX3_judge_96 ?_
        refine JW.lcmp dX3_judge_97 ?_
        refine JW.if_eq (tgt := 103) dX3_judge_98 rfl (fun c_13 => ?_) (fun c_13 => ?_)
        · have K := K.1 c_13
          refine JW.iinc (ls' := [(0, vR 351), (1, vI x1), (2, vI (i32 (x2 + 1))), (3, vL (s.2 2 (i32 ((i32 (60 * x1)) + x2))))]) dX3_judge_103 (Nat.le_of_ble_eq_true rfl) rfl rfl ?_
          refine JW.goto (tgt := 37) dX3_judge_106 rfl ?_
          exact JW.pick [0, 1, 2] rfl K
        · have K := K.2 c_13
          refine JW.iload_n dX3_judge_101 rfl ?_
          exact JW.ireturn dX3_judge_102 rfl rfl ⟨_, rfl, K⟩
def QX3_judge (s : MS) (a1 : Int) : Option AV → MS → Prop := fun v s' => ∃ (f11 : Int → Int) (f12 : Int → Int) (k25 : Int), v = some (vI (rJudge ((s.2 5) 0) (s.2 6) (s.2 7) (s.2 0) (s.2 1) (s.2 2) a1)) ∧ s' = sS (sS (sA (sA s 11 f11) 12 f12) 0 (0)) 25 k25
theorem vX3_judge_1 (s : MS) (a1 : Int) (hp : tOK (s.2 6) ∧ aOK (s.2 6) (s.2 7) ∧ lOK ((s.2 5) 0) (s.2 6) ∧ rwOK (s.2 0) (s.2 1)) (x1 : Int) (x2 : Int) (f11 : Int → Int) (f12 : Int → Int) (k0 : Int) (k25 : Int) (hI : k0 = 0 ∧ (x1 = a1 ∧ 0 ≤ a1 ∧ a1 ≤ 3 ∧ 0 < s.2 5 0 ∧ s.2 0 a1 ≠ -1) ∧ (0 ≤ x2 ∧ x2 ≤ s.2 1 a1) ∧ ∀ j : Int, 0 ≤ j → j < x2 → ¬ badAt (s.2 6) (s.2 7) (fun i => s.2 2 (60 * a1 + i)) j) : (0 ≤ x1 ∧ x1 < 4) := by
  obtain ⟨ht, ha, hl, hr⟩ := hp
  have hN := tOK_N ht
  have hW := tOK_W ht
  (try simp only [bI_0, bI_n, Classical.not_not, jeq] at *)
  (try have hrs := hr a1 (by omega) (by omega))
  (try simp (disch := omega) only [i32_id] at *)
  (try have g1 := hI.2.1.1)
  (try subst x1)
  (try (have hb := bad_in (hI.2.2.2 (x2 - 1) (by omega) (by omega))))
  (try (have hb := bad_in (hI.2.2.2 (x2 - 1) (by omega) (by omega)); have hb : 0 ≤ s.2 2 (60 * a1 + (x2 - 1)) ∧ s.2 2 (60 * a1 + (x2 - 1)) < s.2 6 2 := hb; rw [show 60 * a1 + (x2 - 1) = 60 * a1 + x2 - 1 by omega] at hb))
  (try simp (disch := omega) only [i32_id] at *)
  (try unfold lex3)
  (try simp only [bI_0, bI_n, Classical.not_not] at *)
  (try simp (disch := omega) only [i32_id] at *)
  first | done | omega | ((repeat' (with_reducible apply And.intro)) <;> first | assumption | rfl | omega | (exact hI.1) | (unfold rJudge; rw [if_neg (by omega)]) | (intro j h0 h1; omega) | (unfold rJudge; rw [if_pos (by omega), if_pos (by omega)]) | (unfold rJudge; rw [if_pos (by omega), if_neg (by omega)]; exact (judge_all (fun j a b => hI.2.2.2 j a (by omega))).symm) | (have e8 : badAt (s.2 6) (s.2 7) (fun i => s.2 2 (60 * a1 + i)) x2 := Or.inl c_6; unfold rJudge; rw [if_pos (by omega), if_neg (by omega)]; exact (judge_at (by omega) (by omega) e8 hI.2.2.2).symm) | (have e9 : 60 * a1 + (x2 - 1) = 60 * a1 + x2 - 1 := (by omega); have e8 : badAt (s.2 6) (s.2 7) (fun i => s.2 2 (60 * a1 + i)) x2 := Or.inr ⟨by omega, by show _ ≠ nx _ _ (s.2 2 (60 * a1 + (x2 - 1))); rw [e9]; exact c_13⟩; unfold rJudge; rw [if_pos (by omega), if_neg (by omega)]; exact (judge_at (by omega) (by omega) e8 hI.2.2.2).symm) | (intro j h0 h1; by_cases e : j = x2; (focus (rw [e]; exact fun q => q.elim (fun w => w c_6) (fun w => absurd w.1 (by omega)))); (focus (exact hI.2.2.2 j h0 (by omega)))) | (have e9 : 60 * a1 + (x2 - 1) = 60 * a1 + x2 - 1 := (by omega); have e7 : s.2 2 (60 * a1 + x2) = nx (s.2 6) (s.2 7) (s.2 2 (60 * a1 + (x2 - 1))) := (by rw [e9]; exact c_13); intro j h0 h1; by_cases e : j = x2; (focus (rw [e]; exact fun q => q.elim (fun w => w c_6) (fun w => w.2 e7))); (focus (exact hI.2.2.2 j h0 (by omega)))) | grind [upI])
theorem vX3_judge_2 (s : MS) (a1 : Int) (hp : tOK (s.2 6) ∧ aOK (s.2 6) (s.2 7) ∧ lOK ((s.2 5) 0) (s.2 6) ∧ rwOK (s.2 0) (s.2 1)) (x1 : Int) (x2 : Int) (f11 : Int → Int) (f12 : Int → Int) (k0 : Int) (k25 : Int) (hI : k0 = 0 ∧ (x1 = a1 ∧ 0 ≤ a1 ∧ a1 ≤ 3 ∧ 0 < s.2 5 0 ∧ s.2 0 a1 ≠ -1) ∧ (0 ≤ x2 ∧ x2 ≤ s.2 1 a1) ∧ ∀ j : Int, 0 ≤ j → j < x2 → ¬ badAt (s.2 6) (s.2 7) (fun i => s.2 2 (60 * a1 + i)) j) (o_1 : (0 ≤ x1 ∧ x1 < 4)) (c_2 : (s.2 1 x1) ≤ x2) : k0 = (0) := by
  obtain ⟨ht, ha, hl, hr⟩ := hp
  have hN := tOK_N ht
  have hW := tOK_W ht
  (try simp only [bI_0, bI_n, Classical.not_not, jeq] at *)
  (try have hrs := hr a1 (by omega) (by omega))
  (try simp (disch := omega) only [i32_id] at *)
  (try have g1 := hI.2.1.1)
  (try subst x1)
  (try (have hb := bad_in (hI.2.2.2 (x2 - 1) (by omega) (by omega))))
  (try (have hb := bad_in (hI.2.2.2 (x2 - 1) (by omega) (by omega)); have hb : 0 ≤ s.2 2 (60 * a1 + (x2 - 1)) ∧ s.2 2 (60 * a1 + (x2 - 1)) < s.2 6 2 := hb; rw [show 60 * a1 + (x2 - 1) = 60 * a1 + x2 - 1 by omega] at hb))
  (try simp (disch := omega) only [i32_id] at *)
  (try unfold lex3)
  (try simp only [bI_0, bI_n, Classical.not_not] at *)
  (try simp (disch := omega) only [i32_id] at *)
  first | done | omega | ((repeat' (with_reducible apply And.intro)) <;> first | assumption | rfl | omega | (exact hI.1) | (unfold rJudge; rw [if_neg (by omega)]) | (intro j h0 h1; omega) | (unfold rJudge; rw [if_pos (by omega), if_pos (by omega)]) | (unfold rJudge; rw [if_pos (by omega), if_neg (by omega)]; exact (judge_all (fun j a b => hI.2.2.2 j a (by omega))).symm) | (have e8 : badAt (s.2 6) (s.2 7) (fun i => s.2 2 (60 * a1 + i)) x2 := Or.inl c_6; unfold rJudge; rw [if_pos (by omega), if_neg (by omega)]; exact (judge_at (by omega) (by omega) e8 hI.2.2.2).symm) | (have e9 : 60 * a1 + (x2 - 1) = 60 * a1 + x2 - 1 := (by omega); have e8 : badAt (s.2 6) (s.2 7) (fun i => s.2 2 (60 * a1 + i)) x2 := Or.inr ⟨by omega, by show _ ≠ nx _ _ (s.2 2 (60 * a1 + (x2 - 1))); rw [e9]; exact c_13⟩; unfold rJudge; rw [if_pos (by omega), if_neg (by omega)]; exact (judge_at (by omega) (by omega) e8 hI.2.2.2).symm) | (intro j h0 h1; by_cases e : j = x2; (focus (rw [e]; exact fun q => q.elim (fun w => w c_6) (fun w => absurd w.1 (by omega)))); (focus (exact hI.2.2.2 j h0 (by omega)))) | (have e9 : 60 * a1 + (x2 - 1) = 60 * a1 + x2 - 1 := (by omega); have e7 : s.2 2 (60 * a1 + x2) = nx (s.2 6) (s.2 7) (s.2 2 (60 * a1 + (x2 - 1))) := (by rw [e9]; exact c_13); intro j h0 h1; by_cases e : j = x2; (focus (rw [e]; exact fun q => q.elim (fun w => w c_6) (fun w => w.2 e7))); (focus (exact hI.2.2.2 j h0 (by omega)))) | grind [upI])
theorem vX3_judge_3 (s : MS) (a1 : Int) (hp : tOK (s.2 6) ∧ aOK (s.2 6) (s.2 7) ∧ lOK ((s.2 5) 0) (s.2 6) ∧ rwOK (s.2 0) (s.2 1)) (x1 : Int) (x2 : Int) (f11 : Int → Int) (f12 : Int → Int) (k0 : Int) (k25 : Int) (hI : k0 = 0 ∧ (x1 = a1 ∧ 0 ≤ a1 ∧ a1 ≤ 3 ∧ 0 < s.2 5 0 ∧ s.2 0 a1 ≠ -1) ∧ (0 ≤ x2 ∧ x2 ≤ s.2 1 a1) ∧ ∀ j : Int, 0 ≤ j → j < x2 → ¬ badAt (s.2 6) (s.2 7) (fun i => s.2 2 (60 * a1 + i)) j) (o_1 : (0 ≤ x1 ∧ x1 < 4)) (c_2 : (s.2 1 x1) ≤ x2) : (s.2 1 x1) = (rJudge ((s.2 5) 0) (s.2 6) (s.2 7) (s.2 0) (s.2 1) (s.2 2) a1) := by
  obtain ⟨ht, ha, hl, hr⟩ := hp
  have hN := tOK_N ht
  have hW := tOK_W ht
  (try simp only [bI_0, bI_n, Classical.not_not, jeq] at *)
  (try have hrs := hr a1 (by omega) (by omega))
  (try simp (disch := omega) only [i32_id] at *)
  (try have g1 := hI.2.1.1)
  (try subst x1)
  (try (have hb := bad_in (hI.2.2.2 (x2 - 1) (by omega) (by omega))))
  (try (have hb := bad_in (hI.2.2.2 (x2 - 1) (by omega) (by omega)); have hb : 0 ≤ s.2 2 (60 * a1 + (x2 - 1)) ∧ s.2 2 (60 * a1 + (x2 - 1)) < s.2 6 2 := hb; rw [show 60 * a1 + (x2 - 1) = 60 * a1 + x2 - 1 by omega] at hb))
  (try simp (disch := omega) only [i32_id] at *)
  (try unfold lex3)
  (try simp only [bI_0, bI_n, Classical.not_not] at *)
  (try simp (disch := omega) only [i32_id] at *)
  first | done | omega | ((repeat' (with_reducible apply And.intro)) <;> first | assumption | rfl | omega | (exact hI.1) | (unfold rJudge; rw [if_neg (by omega)]) | (intro j h0 h1; omega) | (unfold rJudge; rw [if_pos (by omega), if_pos (by omega)]) | (unfold rJudge; rw [if_pos (by omega), if_neg (by omega)]; exact (judge_all (fun j a b => hI.2.2.2 j a (by omega))).symm) | (have e8 : badAt (s.2 6) (s.2 7) (fun i => s.2 2 (60 * a1 + i)) x2 := Or.inl c_6; unfold rJudge; rw [if_pos (by omega), if_neg (by omega)]; exact (judge_at (by omega) (by omega) e8 hI.2.2.2).symm) | (have e9 : 60 * a1 + (x2 - 1) = 60 * a1 + x2 - 1 := (by omega); have e8 : badAt (s.2 6) (s.2 7) (fun i => s.2 2 (60 * a1 + i)) x2 := Or.inr ⟨by omega, by show _ ≠ nx _ _ (s.2 2 (60 * a1 + (x2 - 1))); rw [e9]; exact c_13⟩; unfold rJudge; rw [if_pos (by omega), if_neg (by omega)]; exact (judge_at (by omega) (by omega) e8 hI.2.2.2).symm) | (intro j h0 h1; by_cases e : j = x2; (focus (rw [e]; exact fun q => q.elim (fun w => w c_6) (fun w => absurd w.1 (by omega)))); (focus (exact hI.2.2.2 j h0 (by omega)))) | (have e9 : 60 * a1 + (x2 - 1) = 60 * a1 + x2 - 1 := (by omega); have e7 : s.2 2 (60 * a1 + x2) = nx (s.2 6) (s.2 7) (s.2 2 (60 * a1 + (x2 - 1))) := (by rw [e9]; exact c_13); intro j h0 h1; by_cases e : j = x2; (focus (rw [e]; exact fun q => q.elim (fun w => w c_6) (fun w => w.2 e7))); (focus (exact hI.2.2.2 j h0 (by omega)))) | grind [upI])
theorem vX3_judge_4 (s : MS) (a1 : Int) (hp : tOK (s.2 6) ∧ aOK (s.2 6) (s.2 7) ∧ lOK ((s.2 5) 0) (s.2 6) ∧ rwOK (s.2 0) (s.2 1)) (x1 : Int) (x2 : Int) (f11 : Int → Int) (f12 : Int → Int) (k0 : Int) (k25 : Int) (hI : k0 = 0 ∧ (x1 = a1 ∧ 0 ≤ a1 ∧ a1 ≤ 3 ∧ 0 < s.2 5 0 ∧ s.2 0 a1 ≠ -1) ∧ (0 ≤ x2 ∧ x2 ≤ s.2 1 a1) ∧ ∀ j : Int, 0 ≤ j → j < x2 → ¬ badAt (s.2 6) (s.2 7) (fun i => s.2 2 (60 * a1 + i)) j) (o_1 : (0 ≤ x1 ∧ x1 < 4)) (c_2 : ¬ (s.2 1 x1) ≤ x2) : (0 ≤ (i32 ((i32 (60 * x1)) + x2)) ∧ (i32 ((i32 (60 * x1)) + x2)) < 240) := by
  obtain ⟨ht, ha, hl, hr⟩ := hp
  have hN := tOK_N ht
  have hW := tOK_W ht
  (try simp only [bI_0, bI_n, Classical.not_not, jeq] at *)
  (try have hrs := hr a1 (by omega) (by omega))
  (try simp (disch := omega) only [i32_id] at *)
  (try have g1 := hI.2.1.1)
  (try subst x1)
  (try (have hb := bad_in (hI.2.2.2 (x2 - 1) (by omega) (by omega))))
  (try (have hb := bad_in (hI.2.2.2 (x2 - 1) (by omega) (by omega)); have hb : 0 ≤ s.2 2 (60 * a1 + (x2 - 1)) ∧ s.2 2 (60 * a1 + (x2 - 1)) < s.2 6 2 := hb; rw [show 60 * a1 + (x2 - 1) = 60 * a1 + x2 - 1 by omega] at hb))
  (try simp (disch := omega) only [i32_id] at *)
  (try unfold lex3)
  (try simp only [bI_0, bI_n, Classical.not_not] at *)
  (try simp (disch := omega) only [i32_id] at *)
  first | done | omega | ((repeat' (with_reducible apply And.intro)) <;> first | assumption | rfl | omega | (exact hI.1) | (unfold rJudge; rw [if_neg (by omega)]) | (intro j h0 h1; omega) | (unfold rJudge; rw [if_pos (by omega), if_pos (by omega)]) | (unfold rJudge; rw [if_pos (by omega), if_neg (by omega)]; exact (judge_all (fun j a b => hI.2.2.2 j a (by omega))).symm) | (have e8 : badAt (s.2 6) (s.2 7) (fun i => s.2 2 (60 * a1 + i)) x2 := Or.inl c_6; unfold rJudge; rw [if_pos (by omega), if_neg (by omega)]; exact (judge_at (by omega) (by omega) e8 hI.2.2.2).symm) | (have e9 : 60 * a1 + (x2 - 1) = 60 * a1 + x2 - 1 := (by omega); have e8 : badAt (s.2 6) (s.2 7) (fun i => s.2 2 (60 * a1 + i)) x2 := Or.inr ⟨by omega, by show _ ≠ nx _ _ (s.2 2 (60 * a1 + (x2 - 1))); rw [e9]; exact c_13⟩; unfold rJudge; rw [if_pos (by omega), if_neg (by omega)]; exact (judge_at (by omega) (by omega) e8 hI.2.2.2).symm) | (intro j h0 h1; by_cases e : j = x2; (focus (rw [e]; exact fun q => q.elim (fun w => w c_6) (fun w => absurd w.1 (by omega)))); (focus (exact hI.2.2.2 j h0 (by omega)))) | (have e9 : 60 * a1 + (x2 - 1) = 60 * a1 + x2 - 1 := (by omega); have e7 : s.2 2 (60 * a1 + x2) = nx (s.2 6) (s.2 7) (s.2 2 (60 * a1 + (x2 - 1))) := (by rw [e9]; exact c_13); intro j h0 h1; by_cases e : j = x2; (focus (rw [e]; exact fun q => q.elim (fun w => w c_6) (fun w => w.2 e7))); (focus (exact hI.2.2.2 j h0 (by omega)))) | grind [upI])
theorem vX3_judge_5 (s : MS) (a1 : Int) (hp : tOK (s.2 6) ∧ aOK (s.2 6) (s.2 7) ∧ lOK ((s.2 5) 0) (s.2 6) ∧ rwOK (s.2 0) (s.2 1)) (x1 : Int) (x2 : Int) (f11 : Int → Int) (f12 : Int → Int) (k0 : Int) (k25 : Int) (hI : k0 = 0 ∧ (x1 = a1 ∧ 0 ≤ a1 ∧ a1 ≤ 3 ∧ 0 < s.2 5 0 ∧ s.2 0 a1 ≠ -1) ∧ (0 ≤ x2 ∧ x2 ≤ s.2 1 a1) ∧ ∀ j : Int, 0 ≤ j → j < x2 → ¬ badAt (s.2 6) (s.2 7) (fun i => s.2 2 (60 * a1 + i)) j) (o_1 : (0 ≤ x1 ∧ x1 < 4)) (c_2 : ¬ (s.2 1 x1) ≤ x2) (o_3 : (0 ≤ (i32 ((i32 (60 * x1)) + x2)) ∧ (i32 ((i32 (60 * x1)) + x2)) < 240)) : (tOK (s.2 6)) := by
  obtain ⟨ht, ha, hl, hr⟩ := hp
  have hN := tOK_N ht
  have hW := tOK_W ht
  (try simp only [bI_0, bI_n, Classical.not_not, jeq] at *)
  (try have hrs := hr a1 (by omega) (by omega))
  (try simp (disch := omega) only [i32_id] at *)
  (try have g1 := hI.2.1.1)
  (try subst x1)
  (try (have hb := bad_in (hI.2.2.2 (x2 - 1) (by omega) (by omega))))
  (try (have hb := bad_in (hI.2.2.2 (x2 - 1) (by omega) (by omega)); have hb : 0 ≤ s.2 2 (60 * a1 + (x2 - 1)) ∧ s.2 2 (60 * a1 + (x2 - 1)) < s.2 6 2 := hb; rw [show 60 * a1 + (x2 - 1) = 60 * a1 + x2 - 1 by omega] at hb))
  (try simp (disch := omega) only [i32_id] at *)
  (try unfold lex3)
  (try simp only [bI_0, bI_n, Classical.not_not] at *)
  (try simp (disch := omega) only [i32_id] at *)
  first | done | omega | ((repeat' (with_reducible apply And.intro)) <;> first | assumption | rfl | omega | (exact hI.1) | (unfold rJudge; rw [if_neg (by omega)]) | (intro j h0 h1; omega) | (unfold rJudge; rw [if_pos (by omega), if_pos (by omega)]) | (unfold rJudge; rw [if_pos (by omega), if_neg (by omega)]; exact (judge_all (fun j a b => hI.2.2.2 j a (by omega))).symm) | (have e8 : badAt (s.2 6) (s.2 7) (fun i => s.2 2 (60 * a1 + i)) x2 := Or.inl c_6; unfold rJudge; rw [if_pos (by omega), if_neg (by omega)]; exact (judge_at (by omega) (by omega) e8 hI.2.2.2).symm) | (have e9 : 60 * a1 + (x2 - 1) = 60 * a1 + x2 - 1 := (by omega); have e8 : badAt (s.2 6) (s.2 7) (fun i => s.2 2 (60 * a1 + i)) x2 := Or.inr ⟨by omega, by show _ ≠ nx _ _ (s.2 2 (60 * a1 + (x2 - 1))); rw [e9]; exact c_13⟩; unfold rJudge; rw [if_pos (by omega), if_neg (by omega)]; exact (judge_at (by omega) (by omega) e8 hI.2.2.2).symm) | (intro j h0 h1; by_cases e : j = x2; (focus (rw [e]; exact fun q => q.elim (fun w => w c_6) (fun w => absurd w.1 (by omega)))); (focus (exact hI.2.2.2 j h0 (by omega)))) | (have e9 : 60 * a1 + (x2 - 1) = 60 * a1 + x2 - 1 := (by omega); have e7 : s.2 2 (60 * a1 + x2) = nx (s.2 6) (s.2 7) (s.2 2 (60 * a1 + (x2 - 1))) := (by rw [e9]; exact c_13); intro j h0 h1; by_cases e : j = x2; (focus (rw [e]; exact fun q => q.elim (fun w => w c_6) (fun w => w.2 e7))); (focus (exact hI.2.2.2 j h0 (by omega)))) | grind [upI])
theorem vX3_judge_6 (s : MS) (a1 : Int) (hp : tOK (s.2 6) ∧ aOK (s.2 6) (s.2 7) ∧ lOK ((s.2 5) 0) (s.2 6) ∧ rwOK (s.2 0) (s.2 1)) (x1 : Int) (x2 : Int) (f11 : Int → Int) (f12 : Int → Int) (k0 : Int) (k25 : Int) (hI : k0 = 0 ∧ (x1 = a1 ∧ 0 ≤ a1 ∧ a1 ≤ 3 ∧ 0 < s.2 5 0 ∧ s.2 0 a1 ≠ -1) ∧ (0 ≤ x2 ∧ x2 ≤ s.2 1 a1) ∧ ∀ j : Int, 0 ≤ j → j < x2 → ¬ badAt (s.2 6) (s.2 7) (fun i => s.2 2 (60 * a1 + i)) j) (o_1 : (0 ≤ x1 ∧ x1 < 4)) (c_2 : ¬ (s.2 1 x1) ≤ x2) (o_3 : (0 ≤ (i32 ((i32 (60 * x1)) + x2)) ∧ (i32 ((i32 (60 * x1)) + x2)) < 240)) (o_4 : (tOK (s.2 6))) (c_6 : (bI (0 ≤ (s.2 2 (i32 ((i32 (60 * x1)) + x2))) ∧ (s.2 2 (i32 ((i32 (60 * x1)) + x2))) < (s.2 6) 2)) = 0) : k0 = (0) := by
  obtain ⟨ht, ha, hl, hr⟩ := hp
  have hN := tOK_N ht
  have hW := tOK_W ht
  (try simp only [bI_0, bI_n, Classical.not_not, jeq] at *)
  (try have hrs := hr a1 (by omega) (by omega))
  (try simp (disch := omega) only [i32_id] at *)
  (try have g1 := hI.2.1.1)
  (try subst x1)
  (try (have hb := bad_in (hI.2.2.2 (x2 - 1) (by omega) (by omega))))
  (try (have hb := bad_in (hI.2.2.2 (x2 - 1) (by omega) (by omega)); have hb : 0 ≤ s.2 2 (60 * a1 + (x2 - 1)) ∧ s.2 2 (60 * a1 + (x2 - 1)) < s.2 6 2 := hb; rw [show 60 * a1 + (x2 - 1) = 60 * a1 + x2 - 1 by omega] at hb))
  (try simp (disch := omega) only [i32_id] at *)
  (try unfold lex3)
  (try simp only [bI_0, bI_n, Classical.not_not] at *)
  (try simp (disch := omega) only [i32_id] at *)
  first | done | omega | ((repeat' (with_reducible apply And.intro)) <;> first | assumption | rfl | omega | (exact hI.1) | (unfold rJudge; rw [if_neg (by omega)]) | (intro j h0 h1; omega) | (unfold rJudge; rw [if_pos (by omega), if_pos (by omega)]) | (unfold rJudge; rw [if_pos (by omega), if_neg (by omega)]; exact (judge_all (fun j a b => hI.2.2.2 j a (by omega))).symm) | (have e8 : badAt (s.2 6) (s.2 7) (fun i => s.2 2 (60 * a1 + i)) x2 := Or.inl c_6; unfold rJudge; rw [if_pos (by omega), if_neg (by omega)]; exact (judge_at (by omega) (by omega) e8 hI.2.2.2).symm) | (have e9 : 60 * a1 + (x2 - 1) = 60 * a1 + x2 - 1 := (by omega); have e8 : badAt (s.2 6) (s.2 7) (fun i => s.2 2 (60 * a1 + i)) x2 := Or.inr ⟨by omega, by show _ ≠ nx _ _ (s.2 2 (60 * a1 + (x2 - 1))); rw [e9]; exact c_13⟩; unfold rJudge; rw [if_pos (by omega), if_neg (by omega)]; exact (judge_at (by omega) (by omega) e8 hI.2.2.2).symm) | (intro j h0 h1; by_cases e : j = x2; (focus (rw [e]; exact fun q => q.elim (fun w => w c_6) (fun w => absurd w.1 (by omega)))); (focus (exact hI.2.2.2 j h0 (by omega)))) | (have e9 : 60 * a1 + (x2 - 1) = 60 * a1 + x2 - 1 := (by omega); have e7 : s.2 2 (60 * a1 + x2) = nx (s.2 6) (s.2 7) (s.2 2 (60 * a1 + (x2 - 1))) := (by rw [e9]; exact c_13); intro j h0 h1; by_cases e : j = x2; (focus (rw [e]; exact fun q => q.elim (fun w => w c_6) (fun w => w.2 e7))); (focus (exact hI.2.2.2 j h0 (by omega)))) | grind [upI])
theorem vX3_judge_7 (s : MS) (a1 : Int) (hp : tOK (s.2 6) ∧ aOK (s.2 6) (s.2 7) ∧ lOK ((s.2 5) 0) (s.2 6) ∧ rwOK (s.2 0) (s.2 1)) (x1 : Int) (x2 : Int) (f11 : Int → Int) (f12 : Int → Int) (k0 : Int) (k25 : Int) (hI : k0 = 0 ∧ (x1 = a1 ∧ 0 ≤ a1 ∧ a1 ≤ 3 ∧ 0 < s.2 5 0 ∧ s.2 0 a1 ≠ -1) ∧ (0 ≤ x2 ∧ x2 ≤ s.2 1 a1) ∧ ∀ j : Int, 0 ≤ j → j < x2 → ¬ badAt (s.2 6) (s.2 7) (fun i => s.2 2 (60 * a1 + i)) j) (o_1 : (0 ≤ x1 ∧ x1 < 4)) (c_2 : ¬ (s.2 1 x1) ≤ x2) (o_3 : (0 ≤ (i32 ((i32 (60 * x1)) + x2)) ∧ (i32 ((i32 (60 * x1)) + x2)) < 240)) (o_4 : (tOK (s.2 6))) (c_6 : (bI (0 ≤ (s.2 2 (i32 ((i32 (60 * x1)) + x2))) ∧ (s.2 2 (i32 ((i32 (60 * x1)) + x2))) < (s.2 6) 2)) = 0) : x2 = (rJudge ((s.2 5) 0) (s.2 6) (s.2 7) (s.2 0) (s.2 1) (s.2 2) a1) := by
  obtain ⟨ht, ha, hl, hr⟩ := hp
  have hN := tOK_N ht
  have hW := tOK_W ht
  (try simp only [bI_0, bI_n, Classical.not_not, jeq] at *)
  (try have hrs := hr a1 (by omega) (by omega))
  (try simp (disch := omega) only [i32_id] at *)
  (try have g1 := hI.2.1.1)
  (try subst x1)
  (try (have hb := bad_in (hI.2.2.2 (x2 - 1) (by omega) (by omega))))
  (try (have hb := bad_in (hI.2.2.2 (x2 - 1) (by omega) (by omega)); have hb : 0 ≤ s.2 2 (60 * a1 + (x2 - 1)) ∧ s.2 2 (60 * a1 + (x2 - 1)) < s.2 6 2 := hb; rw [show 60 * a1 + (x2 - 1) = 60 * a1 + x2 - 1 by omega] at hb))
  (try simp (disch := omega) only [i32_id] at *)
  (try unfold lex3)
  (try simp only [bI_0, bI_n, Classical.not_not] at *)
  (try simp (disch := omega) only [i32_id] at *)
  first | done | omega | ((repeat' (with_reducible apply And.intro)) <;> first | assumption | rfl | omega | (exact hI.1) | (unfold rJudge; rw [if_neg (by omega)]) | (intro j h0 h1; omega) | (unfold rJudge; rw [if_pos (by omega), if_pos (by omega)]) | (unfold rJudge; rw [if_pos (by omega), if_neg (by omega)]; exact (judge_all (fun j a b => hI.2.2.2 j a (by omega))).symm) | (have e8 : badAt (s.2 6) (s.2 7) (fun i => s.2 2 (60 * a1 + i)) x2 := Or.inl c_6; unfold rJudge; rw [if_pos (by omega), if_neg (by omega)]; exact (judge_at (by omega) (by omega) e8 hI.2.2.2).symm) | (have e9 : 60 * a1 + (x2 - 1) = 60 * a1 + x2 - 1 := (by omega); have e8 : badAt (s.2 6) (s.2 7) (fun i => s.2 2 (60 * a1 + i)) x2 := Or.inr ⟨by omega, by show _ ≠ nx _ _ (s.2 2 (60 * a1 + (x2 - 1))); rw [e9]; exact c_13⟩; unfold rJudge; rw [if_pos (by omega), if_neg (by omega)]; exact (judge_at (by omega) (by omega) e8 hI.2.2.2).symm) | (intro j h0 h1; by_cases e : j = x2; (focus (rw [e]; exact fun q => q.elim (fun w => w c_6) (fun w => absurd w.1 (by omega)))); (focus (exact hI.2.2.2 j h0 (by omega)))) | (have e9 : 60 * a1 + (x2 - 1) = 60 * a1 + x2 - 1 := (by omega); have e7 : s.2 2 (60 * a1 + x2) = nx (s.2 6) (s.2 7) (s.2 2 (60 * a1 + (x2 - 1))) := (by rw [e9]; exact c_13); intro j h0 h1; by_cases e : j = x2; (focus (rw [e]; exact fun q => q.elim (fun w => w c_6) (fun w => w.2 e7))); (focus (exact hI.2.2.2 j h0 (by omega)))) | grind [upI])
theorem vX3_judge_8 (s : MS) (a1 : Int) (hp : tOK (s.2 6) ∧ aOK (s.2 6) (s.2 7) ∧ lOK ((s.2 5) 0) (s.2 6) ∧ rwOK (s.2 0) (s.2 1)) (x1 : Int) (x2 : Int) (f11 : Int → Int) (f12 : Int → Int) (k0 : Int) (k25 : Int) (hI : k0 = 0 ∧ (x1 = a1 ∧ 0 ≤ a1 ∧ a1 ≤ 3 ∧ 0 < s.2 5 0 ∧ s.2 0 a1 ≠ -1) ∧ (0 ≤ x2 ∧ x2 ≤ s.2 1 a1) ∧ ∀ j : Int, 0 ≤ j → j < x2 → ¬ badAt (s.2 6) (s.2 7) (fun i => s.2 2 (60 * a1 + i)) j) (o_1 : (0 ≤ x1 ∧ x1 < 4)) (c_2 : ¬ (s.2 1 x1) ≤ x2) (o_3 : (0 ≤ (i32 ((i32 (60 * x1)) + x2)) ∧ (i32 ((i32 (60 * x1)) + x2)) < 240)) (o_4 : (tOK (s.2 6))) (c_6 : ¬ (bI (0 ≤ (s.2 2 (i32 ((i32 (60 * x1)) + x2))) ∧ (s.2 2 (i32 ((i32 (60 * x1)) + x2))) < (s.2 6) 2)) = 0) (c_7 : x2 ≤ 0) : k0 = 0 ∧ (x1 = a1 ∧ 0 ≤ a1 ∧ a1 ≤ 3 ∧ 0 < s.2 5 0 ∧ s.2 0 a1 ≠ -1) ∧ (0 ≤ (i32 (x2 + 1)) ∧ (i32 (x2 + 1)) ≤ s.2 1 a1) ∧ ∀ j : Int, 0 ≤ j → j < (i32 (x2 + 1)) → ¬ badAt (s.2 6) (s.2 7) (fun i => s.2 2 (60 * a1 + i)) j := by
  obtain ⟨ht, ha, hl, hr⟩ := hp
  have hN := tOK_N ht
  have hW := tOK_W ht
  (try simp only [bI_0, bI_n, Classical.not_not, jeq] at *)
  (try have hrs := hr a1 (by omega) (by omega))
  (try simp (disch := omega) only [i32_id] at *)
  (try have g1 := hI.2.1.1)
  (try subst x1)
  (try (have hb := bad_in (hI.2.2.2 (x2 - 1) (by omega) (by omega))))
  (try (have hb := bad_in (hI.2.2.2 (x2 - 1) (by omega) (by omega)); have hb : 0 ≤ s.2 2 (60 * a1 + (x2 - 1)) ∧ s.2 2 (60 * a1 + (x2 - 1)) < s.2 6 2 := hb; rw [show 60 * a1 + (x2 - 1) = 60 * a1 + x2 - 1 by omega] at hb))
  (try simp (disch := omega) only [i32_id] at *)
  (try unfold lex3)
  (try simp only [bI_0, bI_n, Classical.not_not] at *)
  (try simp (disch := omega) only [i32_id] at *)
  first | done | omega | ((repeat' (with_reducible apply And.intro)) <;> first | assumption | rfl | omega | (exact hI.1) | (unfold rJudge; rw [if_neg (by omega)]) | (intro j h0 h1; omega) | (unfold rJudge; rw [if_pos (by omega), if_pos (by omega)]) | (unfold rJudge; rw [if_pos (by omega), if_neg (by omega)]; exact (judge_all (fun j a b => hI.2.2.2 j a (by omega))).symm) | (have e8 : badAt (s.2 6) (s.2 7) (fun i => s.2 2 (60 * a1 + i)) x2 := Or.inl c_6; unfold rJudge; rw [if_pos (by omega), if_neg (by omega)]; exact (judge_at (by omega) (by omega) e8 hI.2.2.2).symm) | (have e9 : 60 * a1 + (x2 - 1) = 60 * a1 + x2 - 1 := (by omega); have e8 : badAt (s.2 6) (s.2 7) (fun i => s.2 2 (60 * a1 + i)) x2 := Or.inr ⟨by omega, by show _ ≠ nx _ _ (s.2 2 (60 * a1 + (x2 - 1))); rw [e9]; exact c_13⟩; unfold rJudge; rw [if_pos (by omega), if_neg (by omega)]; exact (judge_at (by omega) (by omega) e8 hI.2.2.2).symm) | (intro j h0 h1; by_cases e : j = x2; (focus (rw [e]; exact fun q => q.elim (fun w => w c_6) (fun w => absurd w.1 (by omega)))); (focus (exact hI.2.2.2 j h0 (by omega)))) | (have e9 : 60 * a1 + (x2 - 1) = 60 * a1 + x2 - 1 := (by omega); have e7 : s.2 2 (60 * a1 + x2) = nx (s.2 6) (s.2 7) (s.2 2 (60 * a1 + (x2 - 1))) := (by rw [e9]; exact c_13); intro j h0 h1; by_cases e : j = x2; (focus (rw [e]; exact fun q => q.elim (fun w => w c_6) (fun w => w.2 e7))); (focus (exact hI.2.2.2 j h0 (by omega)))) | grind [upI])
theorem vX3_judge_9 (s : MS) (a1 : Int) (hp : tOK (s.2 6) ∧ aOK (s.2 6) (s.2 7) ∧ lOK ((s.2 5) 0) (s.2 6) ∧ rwOK (s.2 0) (s.2 1)) (x1 : Int) (x2 : Int) (f11 : Int → Int) (f12 : Int → Int) (k0 : Int) (k25 : Int) (hI : k0 = 0 ∧ (x1 = a1 ∧ 0 ≤ a1 ∧ a1 ≤ 3 ∧ 0 < s.2 5 0 ∧ s.2 0 a1 ≠ -1) ∧ (0 ≤ x2 ∧ x2 ≤ s.2 1 a1) ∧ ∀ j : Int, 0 ≤ j → j < x2 → ¬ badAt (s.2 6) (s.2 7) (fun i => s.2 2 (60 * a1 + i)) j) (o_1 : (0 ≤ x1 ∧ x1 < 4)) (c_2 : ¬ (s.2 1 x1) ≤ x2) (o_3 : (0 ≤ (i32 ((i32 (60 * x1)) + x2)) ∧ (i32 ((i32 (60 * x1)) + x2)) < 240)) (o_4 : (tOK (s.2 6))) (c_6 : ¬ (bI (0 ≤ (s.2 2 (i32 ((i32 (60 * x1)) + x2))) ∧ (s.2 2 (i32 ((i32 (60 * x1)) + x2))) < (s.2 6) 2)) = 0) (c_7 : x2 ≤ 0) : lex3 0 0 ((s.2 1 a1 - (i32 (x2 + 1))).toNat) 0 0 ((s.2 1 a1 - x2).toNat) := by
  obtain ⟨ht, ha, hl, hr⟩ := hp
  have hN := tOK_N ht
  have hW := tOK_W ht
  (try simp only [bI_0, bI_n, Classical.not_not, jeq] at *)
  (try have hrs := hr a1 (by omega) (by omega))
  (try simp (disch := omega) only [i32_id] at *)
  (try have g1 := hI.2.1.1)
  (try subst x1)
  (try (have hb := bad_in (hI.2.2.2 (x2 - 1) (by omega) (by omega))))
  (try (have hb := bad_in (hI.2.2.2 (x2 - 1) (by omega) (by omega)); have hb : 0 ≤ s.2 2 (60 * a1 + (x2 - 1)) ∧ s.2 2 (60 * a1 + (x2 - 1)) < s.2 6 2 := hb; rw [show 60 * a1 + (x2 - 1) = 60 * a1 + x2 - 1 by omega] at hb))
  (try simp (disch := omega) only [i32_id] at *)
  (try unfold lex3)
  (try simp only [bI_0, bI_n, Classical.not_not] at *)
  (try simp (disch := omega) only [i32_id] at *)
  first | done | omega | ((repeat' (with_reducible apply And.intro)) <;> first | assumption | rfl | omega | (exact hI.1) | (unfold rJudge; rw [if_neg (by omega)]) | (intro j h0 h1; omega) | (unfold rJudge; rw [if_pos (by omega), if_pos (by omega)]) | (unfold rJudge; rw [if_pos (by omega), if_neg (by omega)]; exact (judge_all (fun j a b => hI.2.2.2 j a (by omega))).symm) | (have e8 : badAt (s.2 6) (s.2 7) (fun i => s.2 2 (60 * a1 + i)) x2 := Or.inl c_6; unfold rJudge; rw [if_pos (by omega), if_neg (by omega)]; exact (judge_at (by omega) (by omega) e8 hI.2.2.2).symm) | (have e9 : 60 * a1 + (x2 - 1) = 60 * a1 + x2 - 1 := (by omega); have e8 : badAt (s.2 6) (s.2 7) (fun i => s.2 2 (60 * a1 + i)) x2 := Or.inr ⟨by omega, by show _ ≠ nx _ _ (s.2 2 (60 * a1 + (x2 - 1))); rw [e9]; exact c_13⟩; unfold rJudge; rw [if_pos (by omega), if_neg (by omega)]; exact (judge_at (by omega) (by omega) e8 hI.2.2.2).symm) | (intro j h0 h1; by_cases e : j = x2; (focus (rw [e]; exact fun q => q.elim (fun w => w c_6) (fun w => absurd w.1 (by omega)))); (focus (exact hI.2.2.2 j h0 (by omega)))) | (have e9 : 60 * a1 + (x2 - 1) = 60 * a1 + x2 - 1 := (by omega); have e7 : s.2 2 (60 * a1 + x2) = nx (s.2 6) (s.2 7) (s.2 2 (60 * a1 + (x2 - 1))) := (by rw [e9]; exact c_13); intro j h0 h1; by_cases e : j = x2; (focus (rw [e]; exact fun q => q.elim (fun w => w c_6) (fun w => w.2 e7))); (focus (exact hI.2.2.2 j h0 (by omega)))) | grind [upI])
theorem vX3_judge_10 (s : MS) (a1 : Int) (hp : tOK (s.2 6) ∧ aOK (s.2 6) (s.2 7) ∧ lOK ((s.2 5) 0) (s.2 6) ∧ rwOK (s.2 0) (s.2 1)) (x1 : Int) (x2 : Int) (f11 : Int → Int) (f12 : Int → Int) (k0 : Int) (k25 : Int) (hI : k0 = 0 ∧ (x1 = a1 ∧ 0 ≤ a1 ∧ a1 ≤ 3 ∧ 0 < s.2 5 0 ∧ s.2 0 a1 ≠ -1) ∧ (0 ≤ x2 ∧ x2 ≤ s.2 1 a1) ∧ ∀ j : Int, 0 ≤ j → j < x2 → ¬ badAt (s.2 6) (s.2 7) (fun i => s.2 2 (60 * a1 + i)) j) (o_1 : (0 ≤ x1 ∧ x1 < 4)) (c_2 : ¬ (s.2 1 x1) ≤ x2) (o_3 : (0 ≤ (i32 ((i32 (60 * x1)) + x2)) ∧ (i32 ((i32 (60 * x1)) + x2)) < 240)) (o_4 : (tOK (s.2 6))) (c_6 : ¬ (bI (0 ≤ (s.2 2 (i32 ((i32 (60 * x1)) + x2))) ∧ (s.2 2 (i32 ((i32 (60 * x1)) + x2))) < (s.2 6) 2)) = 0) (c_7 : ¬ x2 ≤ 0) : (0 ≤ (i32 ((i32 ((i32 (60 * x1)) + x2)) - 1)) ∧ (i32 ((i32 ((i32 (60 * x1)) + x2)) - 1)) < 240) := by
  obtain ⟨ht, ha, hl, hr⟩ := hp
  have hN := tOK_N ht
  have hW := tOK_W ht
  (try simp only [bI_0, bI_n, Classical.not_not, jeq] at *)
  (try have hrs := hr a1 (by omega) (by omega))
  (try simp (disch := omega) only [i32_id] at *)
  (try have g1 := hI.2.1.1)
  (try subst x1)
  (try (have hb := bad_in (hI.2.2.2 (x2 - 1) (by omega) (by omega))))
  (try (have hb := bad_in (hI.2.2.2 (x2 - 1) (by omega) (by omega)); have hb : 0 ≤ s.2 2 (60 * a1 + (x2 - 1)) ∧ s.2 2 (60 * a1 + (x2 - 1)) < s.2 6 2 := hb; rw [show 60 * a1 + (x2 - 1) = 60 * a1 + x2 - 1 by omega] at hb))
  (try simp (disch := omega) only [i32_id] at *)
  (try unfold lex3)
  (try simp only [bI_0, bI_n, Classical.not_not] at *)
  (try simp (disch := omega) only [i32_id] at *)
  first | done | omega | ((repeat' (with_reducible apply And.intro)) <;> first | assumption | rfl | omega | (exact hI.1) | (unfold rJudge; rw [if_neg (by omega)]) | (intro j h0 h1; omega) | (unfold rJudge; rw [if_pos (by omega), if_pos (by omega)]) | (unfold rJudge; rw [if_pos (by omega), if_neg (by omega)]; exact (judge_all (fun j a b => hI.2.2.2 j a (by omega))).symm) | (have e8 : badAt (s.2 6) (s.2 7) (fun i => s.2 2 (60 * a1 + i)) x2 := Or.inl c_6; unfold rJudge; rw [if_pos (by omega), if_neg (by omega)]; exact (judge_at (by omega) (by omega) e8 hI.2.2.2).symm) | (have e9 : 60 * a1 + (x2 - 1) = 60 * a1 + x2 - 1 := (by omega); have e8 : badAt (s.2 6) (s.2 7) (fun i => s.2 2 (60 * a1 + i)) x2 := Or.inr ⟨by omega, by show _ ≠ nx _ _ (s.2 2 (60 * a1 + (x2 - 1))); rw [e9]; exact c_13⟩; unfold rJudge; rw [if_pos (by omega), if_neg (by omega)]; exact (judge_at (by omega) (by omega) e8 hI.2.2.2).symm) | (intro j h0 h1; by_cases e : j = x2; (focus (rw [e]; exact fun q => q.elim (fun w => w c_6) (fun w => absurd w.1 (by omega)))); (focus (exact hI.2.2.2 j h0 (by omega)))) | (have e9 : 60 * a1 + (x2 - 1) = 60 * a1 + x2 - 1 := (by omega); have e7 : s.2 2 (60 * a1 + x2) = nx (s.2 6) (s.2 7) (s.2 2 (60 * a1 + (x2 - 1))) := (by rw [e9]; exact c_13); intro j h0 h1; by_cases e : j = x2; (focus (rw [e]; exact fun q => q.elim (fun w => w c_6) (fun w => w.2 e7))); (focus (exact hI.2.2.2 j h0 (by omega)))) | grind [upI])
theorem vX3_judge_11 (s : MS) (a1 : Int) (hp : tOK (s.2 6) ∧ aOK (s.2 6) (s.2 7) ∧ lOK ((s.2 5) 0) (s.2 6) ∧ rwOK (s.2 0) (s.2 1)) (x1 : Int) (x2 : Int) (f11 : Int → Int) (f12 : Int → Int) (k0 : Int) (k25 : Int) (hI : k0 = 0 ∧ (x1 = a1 ∧ 0 ≤ a1 ∧ a1 ≤ 3 ∧ 0 < s.2 5 0 ∧ s.2 0 a1 ≠ -1) ∧ (0 ≤ x2 ∧ x2 ≤ s.2 1 a1) ∧ ∀ j : Int, 0 ≤ j → j < x2 → ¬ badAt (s.2 6) (s.2 7) (fun i => s.2 2 (60 * a1 + i)) j) (o_1 : (0 ≤ x1 ∧ x1 < 4)) (c_2 : ¬ (s.2 1 x1) ≤ x2) (o_3 : (0 ≤ (i32 ((i32 (60 * x1)) + x2)) ∧ (i32 ((i32 (60 * x1)) + x2)) < 240)) (o_4 : (tOK (s.2 6))) (c_6 : ¬ (bI (0 ≤ (s.2 2 (i32 ((i32 (60 * x1)) + x2))) ∧ (s.2 2 (i32 ((i32 (60 * x1)) + x2))) < (s.2 6) 2)) = 0) (c_7 : ¬ x2 ≤ 0) (o_8 : (0 ≤ (i32 ((i32 ((i32 (60 * x1)) + x2)) - 1)) ∧ (i32 ((i32 ((i32 (60 * x1)) + x2)) - 1)) < 240)) : (tOK (s.2 6) ∧ aOK (s.2 6) (s.2 7) ∧ 0 ≤ (i32 (s.2 2 (i32 ((i32 ((i32 (60 * x1)) + x2)) - 1)))) ∧ (i32 (s.2 2 (i32 ((i32 ((i32 (60 * x1)) + x2)) - 1)))) < (s.2 6) 2 ∧ 0 ≤ (s.2 6 3) ∧ (s.2 6 3) ≤ (s.2 6) 3) := by
  obtain ⟨ht, ha, hl, hr⟩ := hp
  have hN := tOK_N ht
  have hW := tOK_W ht
  (try simp only [bI_0, bI_n, Classical.not_not, jeq] at *)
  (try have hrs := hr a1 (by omega) (by omega))
  (try simp (disch := omega) only [i32_id] at *)
  (try have g1 := hI.2.1.1)
  (try subst x1)
  (try (have hb := bad_in (hI.2.2.2 (x2 - 1) (by omega) (by omega))))
  (try (have hb := bad_in (hI.2.2.2 (x2 - 1) (by omega) (by omega)); have hb : 0 ≤ s.2 2 (60 * a1 + (x2 - 1)) ∧ s.2 2 (60 * a1 + (x2 - 1)) < s.2 6 2 := hb; rw [show 60 * a1 + (x2 - 1) = 60 * a1 + x2 - 1 by omega] at hb))
  (try simp (disch := omega) only [i32_id] at *)
  (try unfold lex3)
  (try simp only [bI_0, bI_n, Classical.not_not] at *)
  (try simp (disch := omega) only [i32_id] at *)
  first | done | omega | ((repeat' (with_reducible apply And.intro)) <;> first | assumption | rfl | omega | (exact hI.1) | (unfold rJudge; rw [if_neg (by omega)]) | (intro j h0 h1; omega) | (unfold rJudge; rw [if_pos (by omega), if_pos (by omega)]) | (unfold rJudge; rw [if_pos (by omega), if_neg (by omega)]; exact (judge_all (fun j a b => hI.2.2.2 j a (by omega))).symm) | (have e8 : badAt (s.2 6) (s.2 7) (fun i => s.2 2 (60 * a1 + i)) x2 := Or.inl c_6; unfold rJudge; rw [if_pos (by omega), if_neg (by omega)]; exact (judge_at (by omega) (by omega) e8 hI.2.2.2).symm) | (have e9 : 60 * a1 + (x2 - 1) = 60 * a1 + x2 - 1 := (by omega); have e8 : badAt (s.2 6) (s.2 7) (fun i => s.2 2 (60 * a1 + i)) x2 := Or.inr ⟨by omega, by show _ ≠ nx _ _ (s.2 2 (60 * a1 + (x2 - 1))); rw [e9]; exact c_13⟩; unfold rJudge; rw [if_pos (by omega), if_neg (by omega)]; exact (judge_at (by omega) (by omega) e8 hI.2.2.2).symm) | (intro j h0 h1; by_cases e : j = x2; (focus (rw [e]; exact fun q => q.elim (fun w => w c_6) (fun w => absurd w.1 (by omega)))); (focus (exact hI.2.2.2 j h0 (by omega)))) | (have e9 : 60 * a1 + (x2 - 1) = 60 * a1 + x2 - 1 := (by omega); have e7 : s.2 2 (60 * a1 + x2) = nx (s.2 6) (s.2 7) (s.2 2 (60 * a1 + (x2 - 1))) := (by rw [e9]; exact c_13); intro j h0 h1; by_cases e : j = x2; (focus (rw [e]; exact fun q => q.elim (fun w => w c_6) (fun w => w.2 e7))); (focus (exact hI.2.2.2 j h0 (by omega)))) | grind [upI])
theorem vX3_judge_12 (s : MS) (a1 : Int) (hp : tOK (s.2 6) ∧ aOK (s.2 6) (s.2 7) ∧ lOK ((s.2 5) 0) (s.2 6) ∧ rwOK (s.2 0) (s.2 1)) (x1 : Int) (x2 : Int) (f11 : Int → Int) (f12 : Int → Int) (k0 : Int) (k25 : Int) (hI : k0 = 0 ∧ (x1 = a1 ∧ 0 ≤ a1 ∧ a1 ≤ 3 ∧ 0 < s.2 5 0 ∧ s.2 0 a1 ≠ -1) ∧ (0 ≤ x2 ∧ x2 ≤ s.2 1 a1) ∧ ∀ j : Int, 0 ≤ j → j < x2 → ¬ badAt (s.2 6) (s.2 7) (fun i => s.2 2 (60 * a1 + i)) j) (o_1 : (0 ≤ x1 ∧ x1 < 4)) (c_2 : ¬ (s.2 1 x1) ≤ x2) (o_3 : (0 ≤ (i32 ((i32 (60 * x1)) + x2)) ∧ (i32 ((i32 (60 * x1)) + x2)) < 240)) (o_4 : (tOK (s.2 6))) (c_6 : ¬ (bI (0 ≤ (s.2 2 (i32 ((i32 (60 * x1)) + x2))) ∧ (s.2 2 (i32 ((i32 (60 * x1)) + x2))) < (s.2 6) 2)) = 0) (c_7 : ¬ x2 ≤ 0) (o_8 : (0 ≤ (i32 ((i32 ((i32 (60 * x1)) + x2)) - 1)) ∧ (i32 ((i32 ((i32 (60 * x1)) + x2)) - 1)) < 240)) (o_9 : (tOK (s.2 6) ∧ aOK (s.2 6) (s.2 7) ∧ 0 ≤ (i32 (s.2 2 (i32 ((i32 ((i32 (60 * x1)) + x2)) - 1)))) ∧ (i32 (s.2 2 (i32 ((i32 ((i32 (60 * x1)) + x2)) - 1)))) < (s.2 6) 2 ∧ 0 ≤ (s.2 6 3) ∧ (s.2 6 3) ≤ (s.2 6) 3)) (f_10 : Int → Int) (f_11 : Int → Int) (c_13 : (jcmp (s.2 2 (i32 ((i32 (60 * x1)) + x2))) ((thrS (s.2 6) (s.2 7) (i32 (s.2 2 (i32 ((i32 ((i32 (60 * x1)) + x2)) - 1)))) ((s.2 6 3)).toNat).2)) = 0) : k0 = 0 ∧ (x1 = a1 ∧ 0 ≤ a1 ∧ a1 ≤ 3 ∧ 0 < s.2 5 0 ∧ s.2 0 a1 ≠ -1) ∧ (0 ≤ (i32 (x2 + 1)) ∧ (i32 (x2 + 1)) ≤ s.2 1 a1) ∧ ∀ j : Int, 0 ≤ j → j < (i32 (x2 + 1)) → ¬ badAt (s.2 6) (s.2 7) (fun i => s.2 2 (60 * a1 + i)) j := by
  obtain ⟨ht, ha, hl, hr⟩ := hp
  have hN := tOK_N ht
  have hW := tOK_W ht
  (try simp only [bI_0, bI_n, Classical.not_not, jeq] at *)
  (try have hrs := hr a1 (by omega) (by omega))
  (try simp (disch := omega) only [i32_id] at *)
  (try have g1 := hI.2.1.1)
  (try subst x1)
  (try (have hb := bad_in (hI.2.2.2 (x2 - 1) (by omega) (by omega))))
  (try (have hb := bad_in (hI.2.2.2 (x2 - 1) (by omega) (by omega)); have hb : 0 ≤ s.2 2 (60 * a1 + (x2 - 1)) ∧ s.2 2 (60 * a1 + (x2 - 1)) < s.2 6 2 := hb; rw [show 60 * a1 + (x2 - 1) = 60 * a1 + x2 - 1 by omega] at hb))
  (try simp (disch := omega) only [i32_id] at *)
  (try unfold lex3)
  (try simp only [bI_0, bI_n, Classical.not_not] at *)
  (try simp (disch := omega) only [i32_id] at *)
  first | done | omega | ((repeat' (with_reducible apply And.intro)) <;> first | assumption | rfl | omega | (exact hI.1) | (unfold rJudge; rw [if_neg (by omega)]) | (intro j h0 h1; omega) | (unfold rJudge; rw [if_pos (by omega), if_pos (by omega)]) | (unfold rJudge; rw [if_pos (by omega), if_neg (by omega)]; exact (judge_all (fun j a b => hI.2.2.2 j a (by omega))).symm) | (have e8 : badAt (s.2 6) (s.2 7) (fun i => s.2 2 (60 * a1 + i)) x2 := Or.inl c_6; unfold rJudge; rw [if_pos (by omega), if_neg (by omega)]; exact (judge_at (by omega) (by omega) e8 hI.2.2.2).symm) | (have e9 : 60 * a1 + (x2 - 1) = 60 * a1 + x2 - 1 := (by omega); have e8 : badAt (s.2 6) (s.2 7) (fun i => s.2 2 (60 * a1 + i)) x2 := Or.inr ⟨by omega, by show _ ≠ nx _ _ (s.2 2 (60 * a1 + (x2 - 1))); rw [e9]; exact c_13⟩; unfold rJudge; rw [if_pos (by omega), if_neg (by omega)]; exact (judge_at (by omega) (by omega) e8 hI.2.2.2).symm) | (intro j h0 h1; by_cases e : j = x2; (focus (rw [e]; exact fun q => q.elim (fun w => w c_6) (fun w => absurd w.1 (by omega)))); (focus (exact hI.2.2.2 j h0 (by omega)))) | (have e9 : 60 * a1 + (x2 - 1) = 60 * a1 + x2 - 1 := (by omega); have e7 : s.2 2 (60 * a1 + x2) = nx (s.2 6) (s.2 7) (s.2 2 (60 * a1 + (x2 - 1))) := (by rw [e9]; exact c_13); intro j h0 h1; by_cases e : j = x2; (focus (rw [e]; exact fun q => q.elim (fun w => w c_6) (fun w => w.2 e7))); (focus (exact hI.2.2.2 j h0 (by omega)))) | grind [upI])
theorem vX3_judge_13 (s : MS) (a1 : Int) (hp : tOK (s.2 6) ∧ aOK (s.2 6) (s.2 7) ∧ lOK ((s.2 5) 0) (s.2 6) ∧ rwOK (s.2 0) (s.2 1)) (x1 : Int) (x2 : Int) (f11 : Int → Int) (f12 : Int → Int) (k0 : Int) (k25 : Int) (hI : k0 = 0 ∧ (x1 = a1 ∧ 0 ≤ a1 ∧ a1 ≤ 3 ∧ 0 < s.2 5 0 ∧ s.2 0 a1 ≠ -1) ∧ (0 ≤ x2 ∧ x2 ≤ s.2 1 a1) ∧ ∀ j : Int, 0 ≤ j → j < x2 → ¬ badAt (s.2 6) (s.2 7) (fun i => s.2 2 (60 * a1 + i)) j) (o_1 : (0 ≤ x1 ∧ x1 < 4)) (c_2 : ¬ (s.2 1 x1) ≤ x2) (o_3 : (0 ≤ (i32 ((i32 (60 * x1)) + x2)) ∧ (i32 ((i32 (60 * x1)) + x2)) < 240)) (o_4 : (tOK (s.2 6))) (c_6 : ¬ (bI (0 ≤ (s.2 2 (i32 ((i32 (60 * x1)) + x2))) ∧ (s.2 2 (i32 ((i32 (60 * x1)) + x2))) < (s.2 6) 2)) = 0) (c_7 : ¬ x2 ≤ 0) (o_8 : (0 ≤ (i32 ((i32 ((i32 (60 * x1)) + x2)) - 1)) ∧ (i32 ((i32 ((i32 (60 * x1)) + x2)) - 1)) < 240)) (o_9 : (tOK (s.2 6) ∧ aOK (s.2 6) (s.2 7) ∧ 0 ≤ (i32 (s.2 2 (i32 ((i32 ((i32 (60 * x1)) + x2)) - 1)))) ∧ (i32 (s.2 2 (i32 ((i32 ((i32 (60 * x1)) + x2)) - 1)))) < (s.2 6) 2 ∧ 0 ≤ (s.2 6 3) ∧ (s.2 6 3) ≤ (s.2 6) 3)) (f_10 : Int → Int) (f_11 : Int → Int) (c_13 : (jcmp (s.2 2 (i32 ((i32 (60 * x1)) + x2))) ((thrS (s.2 6) (s.2 7) (i32 (s.2 2 (i32 ((i32 ((i32 (60 * x1)) + x2)) - 1)))) ((s.2 6 3)).toNat).2)) = 0) : lex3 0 0 ((s.2 1 a1 - (i32 (x2 + 1))).toNat) 0 0 ((s.2 1 a1 - x2).toNat) := by
  obtain ⟨ht, ha, hl, hr⟩ := hp
  have hN := tOK_N ht
  have hW := tOK_W ht
  (try simp only [bI_0, bI_n, Classical.not_not, jeq] at *)
  (try have hrs := hr a1 (by omega) (by omega))
  (try simp (disch := omega) only [i32_id] at *)
  (try have g1 := hI.2.1.1)
  (try subst x1)
  (try (have hb := bad_in (hI.2.2.2 (x2 - 1) (by omega) (by omega))))
  (try (have hb := bad_in (hI.2.2.2 (x2 - 1) (by omega) (by omega)); have hb : 0 ≤ s.2 2 (60 * a1 + (x2 - 1)) ∧ s.2 2 (60 * a1 + (x2 - 1)) < s.2 6 2 := hb; rw [show 60 * a1 + (x2 - 1) = 60 * a1 + x2 - 1 by omega] at hb))
  (try simp (disch := omega) only [i32_id] at *)
  (try unfold lex3)
  (try simp only [bI_0, bI_n, Classical.not_not] at *)
  (try simp (disch := omega) only [i32_id] at *)
  first | done | omega | ((repeat' (with_reducible apply And.intro)) <;> first | assumption | rfl | omega | (exact hI.1) | (unfold rJudge; rw [if_neg (by omega)]) | (intro j h0 h1; omega) | (unfold rJudge; rw [if_pos (by omega), if_pos (by omega)]) | (unfold rJudge; rw [if_pos (by omega), if_neg (by omega)]; exact (judge_all (fun j a b => hI.2.2.2 j a (by omega))).symm) | (have e8 : badAt (s.2 6) (s.2 7) (fun i => s.2 2 (60 * a1 + i)) x2 := Or.inl c_6; unfold rJudge; rw [if_pos (by omega), if_neg (by omega)]; exact (judge_at (by omega) (by omega) e8 hI.2.2.2).symm) | (have e9 : 60 * a1 + (x2 - 1) = 60 * a1 + x2 - 1 := (by omega); have e8 : badAt (s.2 6) (s.2 7) (fun i => s.2 2 (60 * a1 + i)) x2 := Or.inr ⟨by omega, by show _ ≠ nx _ _ (s.2 2 (60 * a1 + (x2 - 1))); rw [e9]; exact c_13⟩; unfold rJudge; rw [if_pos (by omega), if_neg (by omega)]; exact (judge_at (by omega) (by omega) e8 hI.2.2.2).symm) | (intro j h0 h1; by_cases e : j = x2; (focus (rw [e]; exact fun q => q.elim (fun w => w c_6) (fun w => absurd w.1 (by omega)))); (focus (exact hI.2.2.2 j h0 (by omega)))) | (have e9 : 60 * a1 + (x2 - 1) = 60 * a1 + x2 - 1 := (by omega); have e7 : s.2 2 (60 * a1 + x2) = nx (s.2 6) (s.2 7) (s.2 2 (60 * a1 + (x2 - 1))) := (by rw [e9]; exact c_13); intro j h0 h1; by_cases e : j = x2; (focus (rw [e]; exact fun q => q.elim (fun w => w c_6) (fun w => w.2 e7))); (focus (exact hI.2.2.2 j h0 (by omega)))) | grind [upI])
theorem vX3_judge_14 (s : MS) (a1 : Int) (hp : tOK (s.2 6) ∧ aOK (s.2 6) (s.2 7) ∧ lOK ((s.2 5) 0) (s.2 6) ∧ rwOK (s.2 0) (s.2 1)) (x1 : Int) (x2 : Int) (f11 : Int → Int) (f12 : Int → Int) (k0 : Int) (k25 : Int) (hI : k0 = 0 ∧ (x1 = a1 ∧ 0 ≤ a1 ∧ a1 ≤ 3 ∧ 0 < s.2 5 0 ∧ s.2 0 a1 ≠ -1) ∧ (0 ≤ x2 ∧ x2 ≤ s.2 1 a1) ∧ ∀ j : Int, 0 ≤ j → j < x2 → ¬ badAt (s.2 6) (s.2 7) (fun i => s.2 2 (60 * a1 + i)) j) (o_1 : (0 ≤ x1 ∧ x1 < 4)) (c_2 : ¬ (s.2 1 x1) ≤ x2) (o_3 : (0 ≤ (i32 ((i32 (60 * x1)) + x2)) ∧ (i32 ((i32 (60 * x1)) + x2)) < 240)) (o_4 : (tOK (s.2 6))) (c_6 : ¬ (bI (0 ≤ (s.2 2 (i32 ((i32 (60 * x1)) + x2))) ∧ (s.2 2 (i32 ((i32 (60 * x1)) + x2))) < (s.2 6) 2)) = 0) (c_7 : ¬ x2 ≤ 0) (o_8 : (0 ≤ (i32 ((i32 ((i32 (60 * x1)) + x2)) - 1)) ∧ (i32 ((i32 ((i32 (60 * x1)) + x2)) - 1)) < 240)) (o_9 : (tOK (s.2 6) ∧ aOK (s.2 6) (s.2 7) ∧ 0 ≤ (i32 (s.2 2 (i32 ((i32 ((i32 (60 * x1)) + x2)) - 1)))) ∧ (i32 (s.2 2 (i32 ((i32 ((i32 (60 * x1)) + x2)) - 1)))) < (s.2 6) 2 ∧ 0 ≤ (s.2 6 3) ∧ (s.2 6 3) ≤ (s.2 6) 3)) (f_10 : Int → Int) (f_11 : Int → Int) (c_13 : ¬ (jcmp (s.2 2 (i32 ((i32 (60 * x1)) + x2))) ((thrS (s.2 6) (s.2 7) (i32 (s.2 2 (i32 ((i32 ((i32 (60 * x1)) + x2)) - 1)))) ((s.2 6 3)).toNat).2)) = 0) : k0 = (0) := by
  obtain ⟨ht, ha, hl, hr⟩ := hp
  have hN := tOK_N ht
  have hW := tOK_W ht
  (try simp only [bI_0, bI_n, Classical.not_not, jeq] at *)
  (try have hrs := hr a1 (by omega) (by omega))
  (try simp (disch := omega) only [i32_id] at *)
  (try have g1 := hI.2.1.1)
  (try subst x1)
  (try (have hb := bad_in (hI.2.2.2 (x2 - 1) (by omega) (by omega))))
  (try (have hb := bad_in (hI.2.2.2 (x2 - 1) (by omega) (by omega)); have hb : 0 ≤ s.2 2 (60 * a1 + (x2 - 1)) ∧ s.2 2 (60 * a1 + (x2 - 1)) < s.2 6 2 := hb; rw [show 60 * a1 + (x2 - 1) = 60 * a1 + x2 - 1 by omega] at hb))
  (try simp (disch := omega) only [i32_id] at *)
  (try unfold lex3)
  (try simp only [bI_0, bI_n, Classical.not_not] at *)
  (try simp (disch := omega) only [i32_id] at *)
  first | done | omega | ((repeat' (with_reducible apply And.intro)) <;> first | assumption | rfl | omega | (exact hI.1) | (unfold rJudge; rw [if_neg (by omega)]) | (intro j h0 h1; omega) | (unfold rJudge; rw [if_pos (by omega), if_pos (by omega)]) | (unfold rJudge; rw [if_pos (by omega), if_neg (by omega)]; exact (judge_all (fun j a b => hI.2.2.2 j a (by omega))).symm) | (have e8 : badAt (s.2 6) (s.2 7) (fun i => s.2 2 (60 * a1 + i)) x2 := Or.inl c_6; unfold rJudge; rw [if_pos (by omega), if_neg (by omega)]; exact (judge_at (by omega) (by omega) e8 hI.2.2.2).symm) | (have e9 : 60 * a1 + (x2 - 1) = 60 * a1 + x2 - 1 := (by omega); have e8 : badAt (s.2 6) (s.2 7) (fun i => s.2 2 (60 * a1 + i)) x2 := Or.inr ⟨by omega, by show _ ≠ nx _ _ (s.2 2 (60 * a1 + (x2 - 1))); rw [e9]; exact c_13⟩; unfold rJudge; rw [if_pos (by omega), if_neg (by omega)]; exact (judge_at (by omega) (by omega) e8 hI.2.2.2).symm) | (intro j h0 h1; by_cases e : j = x2; (focus (rw [e]; exact fun q => q.elim (fun w => w c_6) (fun w => absurd w.1 (by omega)))); (focus (exact hI.2.2.2 j h0 (by omega)))) | (have e9 : 60 * a1 + (x2 - 1) = 60 * a1 + x2 - 1 := (by omega); have e7 : s.2 2 (60 * a1 + x2) = nx (s.2 6) (s.2 7) (s.2 2 (60 * a1 + (x2 - 1))) := (by rw [e9]; exact c_13); intro j h0 h1; by_cases e : j = x2; (focus (rw [e]; exact fun q => q.elim (fun w => w c_6) (fun w => w.2 e7))); (focus (exact hI.2.2.2 j h0 (by omega)))) | grind [upI])
theorem vX3_judge_15 (s : MS) (a1 : Int) (hp : tOK (s.2 6) ∧ aOK (s.2 6) (s.2 7) ∧ lOK ((s.2 5) 0) (s.2 6) ∧ rwOK (s.2 0) (s.2 1)) (x1 : Int) (x2 : Int) (f11 : Int → Int) (f12 : Int → Int) (k0 : Int) (k25 : Int) (hI : k0 = 0 ∧ (x1 = a1 ∧ 0 ≤ a1 ∧ a1 ≤ 3 ∧ 0 < s.2 5 0 ∧ s.2 0 a1 ≠ -1) ∧ (0 ≤ x2 ∧ x2 ≤ s.2 1 a1) ∧ ∀ j : Int, 0 ≤ j → j < x2 → ¬ badAt (s.2 6) (s.2 7) (fun i => s.2 2 (60 * a1 + i)) j) (o_1 : (0 ≤ x1 ∧ x1 < 4)) (c_2 : ¬ (s.2 1 x1) ≤ x2) (o_3 : (0 ≤ (i32 ((i32 (60 * x1)) + x2)) ∧ (i32 ((i32 (60 * x1)) + x2)) < 240)) (o_4 : (tOK (s.2 6))) (c_6 : ¬ (bI (0 ≤ (s.2 2 (i32 ((i32 (60 * x1)) + x2))) ∧ (s.2 2 (i32 ((i32 (60 * x1)) + x2))) < (s.2 6) 2)) = 0) (c_7 : ¬ x2 ≤ 0) (o_8 : (0 ≤ (i32 ((i32 ((i32 (60 * x1)) + x2)) - 1)) ∧ (i32 ((i32 ((i32 (60 * x1)) + x2)) - 1)) < 240)) (o_9 : (tOK (s.2 6) ∧ aOK (s.2 6) (s.2 7) ∧ 0 ≤ (i32 (s.2 2 (i32 ((i32 ((i32 (60 * x1)) + x2)) - 1)))) ∧ (i32 (s.2 2 (i32 ((i32 ((i32 (60 * x1)) + x2)) - 1)))) < (s.2 6) 2 ∧ 0 ≤ (s.2 6 3) ∧ (s.2 6 3) ≤ (s.2 6) 3)) (f_10 : Int → Int) (f_11 : Int → Int) (c_13 : ¬ (jcmp (s.2 2 (i32 ((i32 (60 * x1)) + x2))) ((thrS (s.2 6) (s.2 7) (i32 (s.2 2 (i32 ((i32 ((i32 (60 * x1)) + x2)) - 1)))) ((s.2 6 3)).toNat).2)) = 0) : x2 = (rJudge ((s.2 5) 0) (s.2 6) (s.2 7) (s.2 0) (s.2 1) (s.2 2) a1) := by
  obtain ⟨ht, ha, hl, hr⟩ := hp
  have hN := tOK_N ht
  have hW := tOK_W ht
  (try simp only [bI_0, bI_n, Classical.not_not, jeq] at *)
  (try have hrs := hr a1 (by omega) (by omega))
  (try simp (disch := omega) only [i32_id] at *)
  (try have g1 := hI.2.1.1)
  (try subst x1)
  (try (have hb := bad_in (hI.2.2.2 (x2 - 1) (by omega) (by omega))))
  (try (have hb := bad_in (hI.2.2.2 (x2 - 1) (by omega) (by omega)); have hb : 0 ≤ s.2 2 (60 * a1 + (x2 - 1)) ∧ s.2 2 (60 * a1 + (x2 - 1)) < s.2 6 2 := hb; rw [show 60 * a1 + (x2 - 1) = 60 * a1 + x2 - 1 by omega] at hb))
  (try simp (disch := omega) only [i32_id] at *)
  (try unfold lex3)
  (try simp only [bI_0, bI_n, Classical.not_not] at *)
  (try simp (disch := omega) only [i32_id] at *)
  first | done | omega | ((repeat' (with_reducible apply And.intro)) <;> first | assumption | rfl | omega | (exact hI.1) | (unfold rJudge; rw [if_neg (by omega)]) | (intro j h0 h1; omega) | (unfold rJudge; rw [if_pos (by omega), if_pos (by omega)]) | (unfold rJudge; rw [if_pos (by omega), if_neg (by omega)]; exact (judge_all (fun j a b => hI.2.2.2 j a (by omega))).symm) | (have e8 : badAt (s.2 6) (s.2 7) (fun i => s.2 2 (60 * a1 + i)) x2 := Or.inl c_6; unfold rJudge; rw [if_pos (by omega), if_neg (by omega)]; exact (judge_at (by omega) (by omega) e8 hI.2.2.2).symm) | (have e9 : 60 * a1 + (x2 - 1) = 60 * a1 + x2 - 1 := (by omega); have e8 : badAt (s.2 6) (s.2 7) (fun i => s.2 2 (60 * a1 + i)) x2 := Or.inr ⟨by omega, by show _ ≠ nx _ _ (s.2 2 (60 * a1 + (x2 - 1))); rw [e9]; exact c_13⟩; unfold rJudge; rw [if_pos (by omega), if_neg (by omega)]; exact (judge_at (by omega) (by omega) e8 hI.2.2.2).symm) | (intro j h0 h1; by_cases e : j = x2; (focus (rw [e]; exact fun q => q.elim (fun w => w c_6) (fun w => absurd w.1 (by omega)))); (focus (exact hI.2.2.2 j h0 (by omega)))) | (have e9 : 60 * a1 + (x2 - 1) = 60 * a1 + x2 - 1 := (by omega); have e7 : s.2 2 (60 * a1 + x2) = nx (s.2 6) (s.2 7) (s.2 2 (60 * a1 + (x2 - 1))) := (by rw [e9]; exact c_13); intro j h0 h1; by_cases e : j = x2; (focus (rw [e]; exact fun q => q.elim (fun w => w c_6) (fun w => w.2 e7))); (focus (exact hI.2.2.2 j h0 (by omega)))) | grind [upI])
theorem vX3_judge_16 (s : MS) (a1 : Int) (hp : tOK (s.2 6) ∧ aOK (s.2 6) (s.2 7) ∧ lOK ((s.2 5) 0) (s.2 6) ∧ rwOK (s.2 0) (s.2 1)) (c_2 : (bI (0 ≤ a1 ∧ a1 ≤ 3)) = 0) : (-2) = (rJudge ((s.2 5) 0) (s.2 6) (s.2 7) (s.2 0) (s.2 1) (s.2 2) a1) := by
  obtain ⟨ht, ha, hl, hr⟩ := hp
  have hN := tOK_N ht
  have hW := tOK_W ht
  (try simp only [bI_0, bI_n, Classical.not_not, jeq] at *)
  (try have hrs := hr a1 (by omega) (by omega))
  (try simp (disch := omega) only [i32_id] at *)
  (try have g1 := hI.2.1.1)
  (try subst x1)
  (try (have hb := bad_in (hI.2.2.2 (x2 - 1) (by omega) (by omega))))
  (try (have hb := bad_in (hI.2.2.2 (x2 - 1) (by omega) (by omega)); have hb : 0 ≤ s.2 2 (60 * a1 + (x2 - 1)) ∧ s.2 2 (60 * a1 + (x2 - 1)) < s.2 6 2 := hb; rw [show 60 * a1 + (x2 - 1) = 60 * a1 + x2 - 1 by omega] at hb))
  (try simp (disch := omega) only [i32_id] at *)
  (try unfold lex3)
  (try simp only [bI_0, bI_n, Classical.not_not] at *)
  (try simp (disch := omega) only [i32_id] at *)
  first | done | omega | ((repeat' (with_reducible apply And.intro)) <;> first | assumption | rfl | omega | (exact hI.1) | (unfold rJudge; rw [if_neg (by omega)]) | (intro j h0 h1; omega) | (unfold rJudge; rw [if_pos (by omega), if_pos (by omega)]) | (unfold rJudge; rw [if_pos (by omega), if_neg (by omega)]; exact (judge_all (fun j a b => hI.2.2.2 j a (by omega))).symm) | (have e8 : badAt (s.2 6) (s.2 7) (fun i => s.2 2 (60 * a1 + i)) x2 := Or.inl c_6; unfold rJudge; rw [if_pos (by omega), if_neg (by omega)]; exact (judge_at (by omega) (by omega) e8 hI.2.2.2).symm) | (have e9 : 60 * a1 + (x2 - 1) = 60 * a1 + x2 - 1 := (by omega); have e8 : badAt (s.2 6) (s.2 7) (fun i => s.2 2 (60 * a1 + i)) x2 := Or.inr ⟨by omega, by show _ ≠ nx _ _ (s.2 2 (60 * a1 + (x2 - 1))); rw [e9]; exact c_13⟩; unfold rJudge; rw [if_pos (by omega), if_neg (by omega)]; exact (judge_at (by omega) (by omega) e8 hI.2.2.2).symm) | (intro j h0 h1; by_cases e : j = x2; (focus (rw [e]; exact fun q => q.elim (fun w => w c_6) (fun w => absurd w.1 (by omega)))); (focus (exact hI.2.2.2 j h0 (by omega)))) | (have e9 : 60 * a1 + (x2 - 1) = 60 * a1 + x2 - 1 := (by omega); have e7 : s.2 2 (60 * a1 + x2) = nx (s.2 6) (s.2 7) (s.2 2 (60 * a1 + (x2 - 1))) := (by rw [e9]; exact c_13); intro j h0 h1; by_cases e : j = x2; (focus (rw [e]; exact fun q => q.elim (fun w => w c_6) (fun w => w.2 e7))); (focus (exact hI.2.2.2 j h0 (by omega)))) | grind [upI])
theorem vX3_judge_17 (s : MS) (a1 : Int) (hp : tOK (s.2 6) ∧ aOK (s.2 6) (s.2 7) ∧ lOK ((s.2 5) 0) (s.2 6) ∧ rwOK (s.2 0) (s.2 1)) (c_2 : ¬ (bI (0 ≤ a1 ∧ a1 ≤ 3)) = 0) (c_4 : ¬ (bI (0 < (s.2 5) 0)) = 0) : (0 ≤ a1 ∧ a1 < 4) := by
  obtain ⟨ht, ha, hl, hr⟩ := hp
  have hN := tOK_N ht
  have hW := tOK_W ht
  (try simp only [bI_0, bI_n, Classical.not_not, jeq] at *)
  (try have hrs := hr a1 (by omega) (by omega))
  (try simp (disch := omega) only [i32_id] at *)
  (try have g1 := hI.2.1.1)
  (try subst x1)
  (try (have hb := bad_in (hI.2.2.2 (x2 - 1) (by omega) (by omega))))
  (try (have hb := bad_in (hI.2.2.2 (x2 - 1) (by omega) (by omega)); have hb : 0 ≤ s.2 2 (60 * a1 + (x2 - 1)) ∧ s.2 2 (60 * a1 + (x2 - 1)) < s.2 6 2 := hb; rw [show 60 * a1 + (x2 - 1) = 60 * a1 + x2 - 1 by omega] at hb))
  (try simp (disch := omega) only [i32_id] at *)
  (try unfold lex3)
  (try simp only [bI_0, bI_n, Classical.not_not] at *)
  (try simp (disch := omega) only [i32_id] at *)
  first | done | omega | ((repeat' (with_reducible apply And.intro)) <;> first | assumption | rfl | omega | (exact hI.1) | (unfold rJudge; rw [if_neg (by omega)]) | (intro j h0 h1; omega) | (unfold rJudge; rw [if_pos (by omega), if_pos (by omega)]) | (unfold rJudge; rw [if_pos (by omega), if_neg (by omega)]; exact (judge_all (fun j a b => hI.2.2.2 j a (by omega))).symm) | (have e8 : badAt (s.2 6) (s.2 7) (fun i => s.2 2 (60 * a1 + i)) x2 := Or.inl c_6; unfold rJudge; rw [if_pos (by omega), if_neg (by omega)]; exact (judge_at (by omega) (by omega) e8 hI.2.2.2).symm) | (have e9 : 60 * a1 + (x2 - 1) = 60 * a1 + x2 - 1 := (by omega); have e8 : badAt (s.2 6) (s.2 7) (fun i => s.2 2 (60 * a1 + i)) x2 := Or.inr ⟨by omega, by show _ ≠ nx _ _ (s.2 2 (60 * a1 + (x2 - 1))); rw [e9]; exact c_13⟩; unfold rJudge; rw [if_pos (by omega), if_neg (by omega)]; exact (judge_at (by omega) (by omega) e8 hI.2.2.2).symm) | (intro j h0 h1; by_cases e : j = x2; (focus (rw [e]; exact fun q => q.elim (fun w => w c_6) (fun w => absurd w.1 (by omega)))); (focus (exact hI.2.2.2 j h0 (by omega)))) | (have e9 : 60 * a1 + (x2 - 1) = 60 * a1 + x2 - 1 := (by omega); have e7 : s.2 2 (60 * a1 + x2) = nx (s.2 6) (s.2 7) (s.2 2 (60 * a1 + (x2 - 1))) := (by rw [e9]; exact c_13); intro j h0 h1; by_cases e : j = x2; (focus (rw [e]; exact fun q => q.elim (fun w => w c_6) (fun w => w.2 e7))); (focus (exact hI.2.2.2 j h0 (by omega)))) | grind [upI])
theorem vX3_judge_18 (s : MS) (a1 : Int) (hp : tOK (s.2 6) ∧ aOK (s.2 6) (s.2 7) ∧ lOK ((s.2 5) 0) (s.2 6) ∧ rwOK (s.2 0) (s.2 1)) (c_2 : ¬ (bI (0 ≤ a1 ∧ a1 ≤ 3)) = 0) (c_4 : ¬ (bI (0 < (s.2 5) 0)) = 0) (o_5 : (0 ≤ a1 ∧ a1 < 4)) (c_6 : ¬ (s.2 0 a1) = (-1)) : (0 : Int) = 0 ∧ (a1 = a1 ∧ 0 ≤ a1 ∧ a1 ≤ 3 ∧ 0 < s.2 5 0 ∧ s.2 0 a1 ≠ -1) ∧ (0 ≤ (0 : Int) ∧ (0 : Int) ≤ s.2 1 a1) ∧ ∀ j : Int, 0 ≤ j → j < (0 : Int) → ¬ badAt (s.2 6) (s.2 7) (fun i => s.2 2 (60 * a1 + i)) j := by
  obtain ⟨ht, ha, hl, hr⟩ := hp
  have hN := tOK_N ht
  have hW := tOK_W ht
  (try simp only [bI_0, bI_n, Classical.not_not, jeq] at *)
  (try have hrs := hr a1 (by omega) (by omega))
  (try simp (disch := omega) only [i32_id] at *)
  (try have g1 := hI.2.1.1)
  (try subst x1)
  (try (have hb := bad_in (hI.2.2.2 (x2 - 1) (by omega) (by omega))))
  (try (have hb := bad_in (hI.2.2.2 (x2 - 1) (by omega) (by omega)); have hb : 0 ≤ s.2 2 (60 * a1 + (x2 - 1)) ∧ s.2 2 (60 * a1 + (x2 - 1)) < s.2 6 2 := hb; rw [show 60 * a1 + (x2 - 1) = 60 * a1 + x2 - 1 by omega] at hb))
  (try simp (disch := omega) only [i32_id] at *)
  (try unfold lex3)
  (try simp only [bI_0, bI_n, Classical.not_not] at *)
  (try simp (disch := omega) only [i32_id] at *)
  first | done | omega | ((repeat' (with_reducible apply And.intro)) <;> first | assumption | rfl | omega | (exact hI.1) | (unfold rJudge; rw [if_neg (by omega)]) | (intro j h0 h1; omega) | (unfold rJudge; rw [if_pos (by omega), if_pos (by omega)]) | (unfold rJudge; rw [if_pos (by omega), if_neg (by omega)]; exact (judge_all (fun j a b => hI.2.2.2 j a (by omega))).symm) | (have e8 : badAt (s.2 6) (s.2 7) (fun i => s.2 2 (60 * a1 + i)) x2 := Or.inl c_6; unfold rJudge; rw [if_pos (by omega), if_neg (by omega)]; exact (judge_at (by omega) (by omega) e8 hI.2.2.2).symm) | (have e9 : 60 * a1 + (x2 - 1) = 60 * a1 + x2 - 1 := (by omega); have e8 : badAt (s.2 6) (s.2 7) (fun i => s.2 2 (60 * a1 + i)) x2 := Or.inr ⟨by omega, by show _ ≠ nx _ _ (s.2 2 (60 * a1 + (x2 - 1))); rw [e9]; exact c_13⟩; unfold rJudge; rw [if_pos (by omega), if_neg (by omega)]; exact (judge_at (by omega) (by omega) e8 hI.2.2.2).symm) | (intro j h0 h1; by_cases e : j = x2; (focus (rw [e]; exact fun q => q.elim (fun w => w c_6) (fun w => absurd w.1 (by omega)))); (focus (exact hI.2.2.2 j h0 (by omega)))) | (have e9 : 60 * a1 + (x2 - 1) = 60 * a1 + x2 - 1 := (by omega); have e7 : s.2 2 (60 * a1 + x2) = nx (s.2 6) (s.2 7) (s.2 2 (60 * a1 + (x2 - 1))) := (by rw [e9]; exact c_13); intro j h0 h1; by_cases e : j = x2; (focus (rw [e]; exact fun q => q.elim (fun w => w c_6) (fun w => w.2 e7))); (focus (exact hI.2.2.2 j h0 (by omega)))) | grind [upI])
theorem vX3_judge_19 (s : MS) (a1 : Int) (hp : tOK (s.2 6) ∧ aOK (s.2 6) (s.2 7) ∧ lOK ((s.2 5) 0) (s.2 6) ∧ rwOK (s.2 0) (s.2 1)) (c_2 : ¬ (bI (0 ≤ a1 ∧ a1 ≤ 3)) = 0) (c_4 : ¬ (bI (0 < (s.2 5) 0)) = 0) (o_5 : (0 ≤ a1 ∧ a1 < 4)) (c_6 : (s.2 0 a1) = (-1)) : (-6) = (rJudge ((s.2 5) 0) (s.2 6) (s.2 7) (s.2 0) (s.2 1) (s.2 2) a1) := by
  obtain ⟨ht, ha, hl, hr⟩ := hp
  have hN := tOK_N ht
  have hW := tOK_W ht
  (try simp only [bI_0, bI_n, Classical.not_not, jeq] at *)
  (try have hrs := hr a1 (by omega) (by omega))
  (try simp (disch := omega) only [i32_id] at *)
  (try have g1 := hI.2.1.1)
  (try subst x1)
  (try (have hb := bad_in (hI.2.2.2 (x2 - 1) (by omega) (by omega))))
  (try (have hb := bad_in (hI.2.2.2 (x2 - 1) (by omega) (by omega)); have hb : 0 ≤ s.2 2 (60 * a1 + (x2 - 1)) ∧ s.2 2 (60 * a1 + (x2 - 1)) < s.2 6 2 := hb; rw [show 60 * a1 + (x2 - 1) = 60 * a1 + x2 - 1 by omega] at hb))
  (try simp (disch := omega) only [i32_id] at *)
  (try unfold lex3)
  (try simp only [bI_0, bI_n, Classical.not_not] at *)
  (try simp (disch := omega) only [i32_id] at *)
  first | done | omega | ((repeat' (with_reducible apply And.intro)) <;> first | assumption | rfl | omega | (exact hI.1) | (unfold rJudge; rw [if_neg (by omega)]) | (intro j h0 h1; omega) | (unfold rJudge; rw [if_pos (by omega), if_pos (by omega)]) | (unfold rJudge; rw [if_pos (by omega), if_neg (by omega)]; exact (judge_all (fun j a b => hI.2.2.2 j a (by omega))).symm) | (have e8 : badAt (s.2 6) (s.2 7) (fun i => s.2 2 (60 * a1 + i)) x2 := Or.inl c_6; unfold rJudge; rw [if_pos (by omega), if_neg (by omega)]; exact (judge_at (by omega) (by omega) e8 hI.2.2.2).symm) | (have e9 : 60 * a1 + (x2 - 1) = 60 * a1 + x2 - 1 := (by omega); have e8 : badAt (s.2 6) (s.2 7) (fun i => s.2 2 (60 * a1 + i)) x2 := Or.inr ⟨by omega, by show _ ≠ nx _ _ (s.2 2 (60 * a1 + (x2 - 1))); rw [e9]; exact c_13⟩; unfold rJudge; rw [if_pos (by omega), if_neg (by omega)]; exact (judge_at (by omega) (by omega) e8 hI.2.2.2).symm) | (intro j h0 h1; by_cases e : j = x2; (focus (rw [e]; exact fun q => q.elim (fun w => w c_6) (fun w => absurd w.1 (by omega)))); (focus (exact hI.2.2.2 j h0 (by omega)))) | (have e9 : 60 * a1 + (x2 - 1) = 60 * a1 + x2 - 1 := (by omega); have e7 : s.2 2 (60 * a1 + x2) = nx (s.2 6) (s.2 7) (s.2 2 (60 * a1 + (x2 - 1))) := (by rw [e9]; exact c_13); intro j h0 h1; by_cases e : j = x2; (focus (rw [e]; exact fun q => q.elim (fun w => w c_6) (fun w => w.2 e7))); (focus (exact hI.2.2.2 j h0 (by omega)))) | grind [upI])
theorem vX3_judge_20 (s : MS) (a1 : Int) (hp : tOK (s.2 6) ∧ aOK (s.2 6) (s.2 7) ∧ lOK ((s.2 5) 0) (s.2 6) ∧ rwOK (s.2 0) (s.2 1)) (c_2 : ¬ (bI (0 ≤ a1 ∧ a1 ≤ 3)) = 0) (c_4 : (bI (0 < (s.2 5) 0)) = 0) : (-2) = (rJudge ((s.2 5) 0) (s.2 6) (s.2 7) (s.2 0) (s.2 1) (s.2 2) a1) := by
  obtain ⟨ht, ha, hl, hr⟩ := hp
  have hN := tOK_N ht
  have hW := tOK_W ht
  (try simp only [bI_0, bI_n, Classical.not_not, jeq] at *)
  (try have hrs := hr a1 (by omega) (by omega))
  (try simp (disch := omega) only [i32_id] at *)
  (try have g1 := hI.2.1.1)
  (try subst x1)
  (try (have hb := bad_in (hI.2.2.2 (x2 - 1) (by omega) (by omega))))
  (try (have hb := bad_in (hI.2.2.2 (x2 - 1) (by omega) (by omega)); have hb : 0 ≤ s.2 2 (60 * a1 + (x2 - 1)) ∧ s.2 2 (60 * a1 + (x2 - 1)) < s.2 6 2 := hb; rw [show 60 * a1 + (x2 - 1) = 60 * a1 + x2 - 1 by omega] at hb))
  (try simp (disch := omega) only [i32_id] at *)
  (try unfold lex3)
  (try simp only [bI_0, bI_n, Classical.not_not] at *)
  (try simp (disch := omega) only [i32_id] at *)
  first | done | omega | ((repeat' (with_reducible apply And.intro)) <;> first | assumption | rfl | omega | (exact hI.1) | (unfold rJudge; rw [if_neg (by omega)]) | (intro j h0 h1; omega) | (unfold rJudge; rw [if_pos (by omega), if_pos (by omega)]) | (unfold rJudge; rw [if_pos (by omega), if_neg (by omega)]; exact (judge_all (fun j a b => hI.2.2.2 j a (by omega))).symm) | (have e8 : badAt (s.2 6) (s.2 7) (fun i => s.2 2 (60 * a1 + i)) x2 := Or.inl c_6; unfold rJudge; rw [if_pos (by omega), if_neg (by omega)]; exact (judge_at (by omega) (by omega) e8 hI.2.2.2).symm) | (have e9 : 60 * a1 + (x2 - 1) = 60 * a1 + x2 - 1 := (by omega); have e8 : badAt (s.2 6) (s.2 7) (fun i => s.2 2 (60 * a1 + i)) x2 := Or.inr ⟨by omega, by show _ ≠ nx _ _ (s.2 2 (60 * a1 + (x2 - 1))); rw [e9]; exact c_13⟩; unfold rJudge; rw [if_pos (by omega), if_neg (by omega)]; exact (judge_at (by omega) (by omega) e8 hI.2.2.2).symm) | (intro j h0 h1; by_cases e : j = x2; (focus (rw [e]; exact fun q => q.elim (fun w => w c_6) (fun w => absurd w.1 (by omega)))); (focus (exact hI.2.2.2 j h0 (by omega)))) | (have e9 : 60 * a1 + (x2 - 1) = 60 * a1 + x2 - 1 := (by omega); have e7 : s.2 2 (60 * a1 + x2) = nx (s.2 6) (s.2 7) (s.2 2 (60 * a1 + (x2 - 1))) := (by rw [e9]; exact c_13); intro j h0 h1; by_cases e : j = x2; (focus (rw [e]; exact fun q => q.elim (fun w => w c_6) (fun w => w.2 e7))); (focus (exact hI.2.2.2 j h0 (by omega)))) | grind [upI])
theorem allX3_judge (b : AH) (s : MS) (a1 : Int) (hp : tOK (s.2 6) ∧ aOK (s.2 6) (s.2 7) ∧ lOK ((s.2 5) 0) (s.2 6) ∧ rwOK (s.2 0) (s.2 1)) : ∀ m1 m2 m3 : Nat, (∀ (x1 : Int) (x2 : Int) (f11 : Int → Int) (f12 : Int → Int) (k0 : Int) (k25 : Int), m1 = 0 → m2 = 0 → m3 = ((s.2 1 a1 - x2).toNat) → (k0 = 0 ∧ (x1 = a1 ∧ 0 ≤ a1 ∧ a1 ≤ 3 ∧ 0 < s.2 5 0 ∧ s.2 0 a1 ≠ -1) ∧ (0 ≤ x2 ∧ x2 ≤ s.2 1 a1) ∧ ∀ j : Int, 0 ≤ j → j < x2 → ¬ badAt (s.2 6) (s.2 7) (fun i => s.2 2 (60 * a1 + i)) j) → HX3_judge_37 (QX3_judge s a1) b s x1 x2 f11 f12 k0 k25) := by
  refine lex3_ind ?_
  intro m1 m2 m3 ih
  rintro x1 x2 f11 f12 k0 k25 rfl rfl rfl hI
  refine bX3_judge_37 b s x1 x2 f11 f12 k0 k25 ?_
  have o_1 : (0 ≤ x1 ∧ x1 < 4) := (vX3_judge_1 s a1 hp x1 x2 f11 f12 k0 k25 hI)
  refine ⟨o_1, ?_⟩
  refine ⟨fun c_2 => ?_, fun c_2 => ?_⟩
  · exact ⟨f11, f12, k25, (rI_c (vX3_judge_3 s a1 hp x1 x2 f11 f12 k0 k25 hI o_1 c_2)), (sS_c (sS_c (sA_c (sA_c rfl rfl) rfl) (vX3_judge_2 s a1 hp x1 x2 f11 f12 k0 k25 hI o_1 c_2)) rfl)⟩
  · have o_3 : (0 ≤ (i32 ((i32 (60 * x1)) + x2)) ∧ (i32 ((i32 (60 * x1)) + x2)) < 240) := (vX3_judge_4 s a1 hp x1 x2 f11 f12 k0 k25 hI o_1 c_2)
    refine ⟨o_3, ?_⟩
    have o_4 : (tOK (s.2 6)) := (vX3_judge_5 s a1 hp x1 x2 f11 f12 k0 k25 hI o_1 c_2 o_3)
    refine ⟨o_4, ?_⟩
    refine ⟨fun c_6 => ?_, fun c_6 => ?_⟩
    · exact ⟨f11, f12, k25, (rI_c (vX3_judge_7 s a1 hp x1 x2 f11 f12 k0 k25 hI o_1 c_2 o_3 o_4 c_6)), (sS_c (sS_c (sA_c (sA_c rfl rfl) rfl) (vX3_judge_6 s a1 hp x1 x2 f11 f12 k0 k25 hI o_1 c_2 o_3 o_4 c_6)) rfl)⟩
    · refine ⟨fun c_7 => ?_, fun c_7 => ?_⟩
      · exact (ih _ _ _ (vX3_judge_9 s a1 hp x1 x2 f11 f12 k0 k25 hI o_1 c_2 o_3 o_4 c_6 c_7)) x1 (i32 (x2 + 1)) f11 f12 k0 k25 rfl rfl rfl (vX3_judge_8 s a1 hp x1 x2 f11 f12 k0 k25 hI o_1 c_2 o_3 o_4 c_6 c_7)
      · have o_8 : (0 ≤ (i32 ((i32 ((i32 (60 * x1)) + x2)) - 1)) ∧ (i32 ((i32 ((i32 (60 * x1)) + x2)) - 1)) < 240) := (vX3_judge_10 s a1 hp x1 x2 f11 f12 k0 k25 hI o_1 c_2 o_3 o_4 c_6 c_7)
        refine ⟨o_8, ?_⟩
        have o_9 : (tOK (s.2 6) ∧ aOK (s.2 6) (s.2 7) ∧ 0 ≤ (i32 (s.2 2 (i32 ((i32 ((i32 (60 * x1)) + x2)) - 1)))) ∧ (i32 (s.2 2 (i32 ((i32 ((i32 (60 * x1)) + x2)) - 1)))) < (s.2 6) 2 ∧ 0 ≤ (s.2 6 3) ∧ (s.2 6 3) ≤ (s.2 6) 3) := (vX3_judge_11 s a1 hp x1 x2 f11 f12 k0 k25 hI o_1 c_2 o_3 o_4 c_6 c_7 o_8)
        refine ⟨o_9, ?_⟩
        intro f_10 f_11
        refine ⟨fun c_13 => ?_, fun c_13 => ?_⟩
        · exact (ih _ _ _ (vX3_judge_13 s a1 hp x1 x2 f11 f12 k0 k25 hI o_1 c_2 o_3 o_4 c_6 c_7 o_8 o_9 f_10 f_11 c_13)) x1 (i32 (x2 + 1)) f_10 f_11 k0 ((thrS (s.2 6) (s.2 7) (i32 (s.2 2 (i32 ((i32 ((i32 (60 * x1)) + x2)) - 1)))) ((s.2 6 3)).toNat).1) rfl rfl rfl (vX3_judge_12 s a1 hp x1 x2 f11 f12 k0 k25 hI o_1 c_2 o_3 o_4 c_6 c_7 o_8 o_9 f_10 f_11 c_13)
        · exact ⟨f_10, f_11, ((thrS (s.2 6) (s.2 7) (i32 (s.2 2 (i32 ((i32 ((i32 (60 * x1)) + x2)) - 1)))) ((s.2 6 3)).toNat).1), (rI_c (vX3_judge_15 s a1 hp x1 x2 f11 f12 k0 k25 hI o_1 c_2 o_3 o_4 c_6 c_7 o_8 o_9 f_10 f_11 c_13)), (sS_c (sS_c (sA_c (sA_c rfl rfl) rfl) (vX3_judge_14 s a1 hp x1 x2 f11 f12 k0 k25 hI o_1 c_2 o_3 o_4 c_6 c_7 o_8 o_9 f_10 f_11 c_13)) rfl)⟩
theorem ctX3_judge (b : AH) (s : MS) (a1 : Int) (hp : tOK (s.2 6) ∧ aOK (s.2 6) (s.2 7) ∧ lOK ((s.2 5) 0) (s.2 6) ∧ rwOK (s.2 0) (s.2 1)) : MC mX3_judge 8 b s [vI a1] (QX3_judge s a1) := by
  refine MC.of (by decide) rfl (Nat.le_of_ble_eq_true rfl) (JW.steq (s2 := sS (sS (sA (sA s 11 (s.2 11)) 12 (s.2 12)) 0 (s.1 0)) 25 (s.1 25)) (by simp only [sA_id, sS_id]) ?_)
  refine bX3_judge_0 b s a1 (s.2 11) (s.2 12) (s.1 0) (s.1 25) ?_
  refine ⟨fun c_2 => ?_, fun c_2 => ?_⟩
  · exact ⟨(s.2 11), (s.2 12), (s.1 25), (rI_c (vX3_judge_16 s a1 hp c_2)), rfl⟩
  · refine ⟨fun c_4 => ?_, fun c_4 => ?_⟩
    · have o_5 : (0 ≤ a1 ∧ a1 < 4) := (vX3_judge_17 s a1 hp c_2 c_4)
      refine ⟨o_5, ?_⟩
      refine ⟨fun c_6 => ?_, fun c_6 => ?_⟩
      · exact (allX3_judge b s a1 hp _ _ _) a1 0 (s.2 11) (s.2 12) 0 (s.1 25) rfl rfl rfl (vX3_judge_18 s a1 hp c_2 c_4 o_5 c_6)
      · exact ⟨(s.2 11), (s.2 12), (s.1 25), (rI_c (vX3_judge_19 s a1 hp c_2 c_4 o_5 c_6)), rfl⟩
    · exact ⟨(s.2 11), (s.2 12), (s.1 25), (rI_c (vX3_judge_20 s a1 hp c_2 c_4)), rfl⟩
def HX3_evening_0 (Q : Option AV → MS → Prop) (b : AH) (s : MS) (x1 : Int) (x2 : Int) (x3 : Int) (f11 : Int → Int) (f12 : Int → Int) (f13 : Int → Int) (f14 : Int → Int) (f15 : Int → Int) (f16 : Int → Int) (f17 : Int → Int) (f18 : Int → Int) (f19 : Int → Int) (k0 : Int) (k25 : Int) (k33 : Int) (k34 : Int) : Prop := MW mX3_evening 9 Q b 0 [(0, vR 351), (1, vI x1), (2, vI x2), (3, vI x3)] [] (sS (sS (sS (sS (sA (sA (sA (sA (sA (sA (sA (sA (sA s 11 f11) 12 f12) 13 f13) 14 f14) 15 f15) 16 f16) 17 f17) 18 f18) 19 f19) 0 k0) 25 k25) 33 k33) 34 k34)
def HX3_evening_58 (Q : Option AV → MS → Prop) (b : AH) (s : MS) (x1 : Int) (x2 : Int) (x3 : Int) (x4 : Int) (f11 : Int → Int) (f12 : Int → Int) (f13 : Int → Int) (f14 : Int → Int) (f15 : Int → Int) (f16 : Int → Int) (f17 : Int → Int) (f18 : Int → Int) (f19 : Int → Int) (k0 : Int) (k25 : Int) (k33 : Int) (k34 : Int) : Prop := MW mX3_evening 9 Q b 58 [(0, vR 351), (1, vI x1), (2, vI x2), (3, vI x3), (4, vI x4)] [] (sS (sS (sS (sS (sA (sA (sA (sA (sA (sA (sA (sA (sA s 11 f11) 12 f12) 13 f13) 14 f14) 15 f15) 16 f16) 17 f17) 18 f18) 19 f19) 0 k0) 25 k25) 33 k33) 34 k34)
def HX3_evening_102 (Q : Option AV → MS → Prop) (b : AH) (s : MS) (x2 : Int) (x3 : Int) (x4 : Int) (x6 : Int) (x7 : Int) (x8 : Int) (x9 : Int) (x10 : Int) (f11 : Int → Int) (f12 : Int → Int) (f13 : Int → Int) (f14 : Int → Int) (f15 : Int → Int) (f16 : Int → Int) (f17 : Int → Int) (f18 : Int → Int) (f19 : Int → Int) (k0 : Int) (k25 : Int) (k33 : Int) (k34 : Int) : Prop := MW mX3_evening 9 Q b 102 [(0, vR 351), (2, vI x2), (3, vI x3), (4, vL x4), (6, vI x6), (7, vI x7), (8, vI x8), (9, vI x9), (10, vI x10)] [] (sS (sS (sS (sS (sA (sA (sA (sA (sA (sA (sA (sA (sA s 11 f11) 12 f12) 13 f13) 14 f14) 15 f15) 16 f16) 17 f17) 18 f18) 19 f19) 0 k0) 25 k25) 33 k33) 34 k34)
theorem bX3_evening_0 {Q : Option AV → MS → Prop} (b : AH) (s : MS) (x1 : Int) (x2 : Int) (x3 : Int) (f11 : Int → Int) (f12 : Int → Int) (f13 : Int → Int) (f14 : Int → Int) (f15 : Int → Int) (f16 : Int → Int) (f17 : Int → Int) (f18 : Int → Int) (f19 : Int → Int) (k0 : Int) (k25 : Int) (k33 : Int) (k34 : Int) (K : ((bI (0 < (s.2 5) 0)) = 0 → Q (some (vI (-2))) (sS (sS (sS (sS (sA (sA (sA (sA (sA (sA (sA (sA (sA s 11 f11) 12 f12) 13 f13) 14 f14) 15 f15) 16 f16) 17 f17) 18 f18) 19 f19) 0 0) 25 k25) 33 k33) 34 k34)) ∧ (¬ (bI (0 < (s.2 5) 0)) = 0 → ((bI ((0 : Int) ≤ x1 ∧ x1 ≤ (2000000000 : Int))) = 0 → Q (some (vI (-2))) (sS (sS (sS (sS (sA (sA (sA (sA (sA (sA (sA (sA (sA s 11 f11) 12 f12) 13 f13) 14 f14) 15 f15) 16 f16) 17 f17) 18 f18) 19 f19) 0 0) 25 k25) 33 k33) 34 k34)) ∧ (¬ (bI ((0 : Int) ≤ x1 ∧ x1 ≤ (2000000000 : Int))) = 0 → ((bI ((1 : Int) ≤ x2 ∧ x2 ≤ (100 : Int))) = 0 → Q (some (vI (-2))) (sS (sS (sS (sS (sA (sA (sA (sA (sA (sA (sA (sA (sA s 11 f11) 12 f12) 13 f13) 14 f14) 15 f15) 16 f16) 17 f17) 18 f18) 19 f19) 0 0) 25 k25) 33 k33) 34 k34)) ∧ (¬ (bI ((1 : Int) ≤ x2 ∧ x2 ≤ (100 : Int))) = 0 → (¬ (bI ((0 : Int) ≤ x3 ∧ x3 ≤ (2 : Int))) = 0 → (tOK (s.2 6) ∧ aOK (s.2 6) (s.2 7)) ∧ ((∀ (f_10 : Int → Int) (f_11 : Int → Int) (f_12 : Int → Int) (f_13 : Int → Int) (f_14 : Int → Int) (f_15 : Int → Int) (f_16 : Int → Int) (k_17 : Int), (GO (s.2 6) (s.2 7) f_12 f_13 f_14 f_15) → HX3_evening_58 Q b s x1 x2 x3 0 f_10 f_11 f_12 f_13 f_14 f_15 f_16 f18 f19 0 k_17 k33 k34))) ∧ ((bI ((0 : Int) ≤ x3 ∧ x3 ≤ (2 : Int))) = 0 → Q (some (vI (-2))) (sS (sS (sS (sS (sA (sA (sA (sA (sA (sA (sA (sA (sA s 11 f11) 12 f12) 13 f13) 14 f14) 15 f15) 16 f16) 17 f17) 18 f18) 19 f19) 0 0) 25 k25) 33 k33) 34 k34)))))) : HX3_evening_0 Q b s x1 x2 x3 f11 f12 f13 f14 f15 f16 f17 f18 f19 k0 k25 k33 k34 := by
  refine JW.aload_n dX3_evening_0 rfl ?_
  refine JW.iconst dX3_evening_1 rfl ?_
  refine JW.mputI dX3_evening_2 (pX3_77 _) rfl ?_
  refine JW.steq (s2 := sS (sS (sS (sS (sA (sA (sA (sA (sA (sA (sA (sA (sA s 11 f11) 12 f12) 13 f13) 14 f14) 15 f15) 16 f16) 17 f17) 18 f18) 19 f19) 0 0) 25 k25) 33 k33) 34 k34) (by simp only [sA_A, sS_S, sA_S, sA_lt, sS_lt, Nat.reduceLT, id_eq] <;> rfl) ?_
  refine JW.aload_n dX3_evening_5 rfl ?_
  refine JW.mcall (As := []) dX3_evening_6 vX3_isTable rfl q1798 (ctX3_isTable b (sS (sS (sS (sS (sA (sA (sA (sA (sA (sA (sA (sA (sA s 11 f11) 12 f12) 13 f13) 14 f14) 15 f15) 16 f16) 17 f17) 18 f18) 19 f19) 0 0) 25 k25) 33 k33) 34 k34)) (Nat.le_of_ble_eq_true rfl) rfl (Nat.le_of_ble_eq_true rfl) ?_
  rintro _ _ ⟨rfl, eq_1⟩
  refine JW.steq (s2 := sS (sS (sS (sS (sA (sA (sA (sA (sA (sA (sA (sA (sA s 11 f11) 12 f12) 13 f13) 14 f14) 15 f15) 16 f16) 17 f17) 18 f18) 19 f19) 0 0) 25 k25) 33 k33) 34 k34) eq_1 ?_
  refine JW.if_eq (tgt := 48) dX3_evening_9 rfl (fun c_2 => ?_) (fun c_2 => ?_)
  · have K := K.1 c_2
    refine JW.bipush dX3_evening_48 rfl ?_
    exact JW.ireturn dX3_evening_50 rfl rfl ⟨_, rfl, K⟩
  · have K := K.2 c_2
    refine JW.iload_n dX3_evening_12 rfl ?_
    refine JW.i2l dX3_evening_13 ?_
    refine JW.lconst (x := 0) dX3_evening_14 rfl ?_
    refine JW.ldc2 (x := 2000000000) dX3_evening_15 q2077 rfl ?_
    refine JW.mcallS (As := [vL x1, vL 0, vL 2000000000]) dX3_evening_18 vX3_in q1632 (ctX3_in b (sS (sS (sS (sS (sA (sA (sA (sA (sA (sA (sA (sA (sA s 11 f11) 12 f12) 13 f13) 14 f14) 15 f15) 16 f16) 17 f17) 18 f18) 19 f19) 0 0) 25 k25) 33 k33) 34 k34) x1 0 2000000000) (Nat.le_of_ble_eq_true rfl) rfl (Nat.le_of_ble_eq_true rfl) ?_
    rintro _ _ ⟨rfl, eq_3⟩
    refine JW.steq (s2 := sS (sS (sS (sS (sA (sA (sA (sA (sA (sA (sA (sA (sA s 11 f11) 12 f12) 13 f13) 14 f14) 15 f15) 16 f16) 17 f17) 18 f18) 19 f19) 0 0) 25 k25) 33 k33) 34 k34) eq_3 ?_
    refine JW.if_eq (tgt := 48) dX3_evening_21 rfl (fun c_4 => ?_) (fun c_4 => ?_)
    · have K := K.1 c_4
      refine JW.bipush dX3_evening_48 rfl ?_
      exact JW.ireturn dX3_evening_50 rfl rfl ⟨_, rfl, K⟩
    · have K := K.2 c_4
      refine JW.iload_n dX3_evening_24 rfl ?_
      refine JW.i2l dX3_evening_25 ?_
      refine JW.lconst (x := 1) dX3_evening_26 rfl ?_
      refine JW.ldc2 (x := 100) dX3_evening_27 q2078 rfl ?_
      refine JW.mcallS (As := [vL x2, vL 1, vL 100]) dX3_evening_30 vX3_in q1632 (ctX3_in b (sS (sS (sS (sS (sA (sA (sA (sA (sA (sA (sA (sA (sA s 11 f11) 12 f12) 13 f13) 14 f14) 15 f15) 16 f16) 17 f17) 18 f18) 19 f19) 0 0) 25 k25) 33 k33) 34 k34) x2 1 100) (Nat.le_of_ble_eq_true rfl) rfl (Nat.le_of_ble_eq_true rfl) ?_
      rintro _ _ ⟨rfl, eq_5⟩
      refine JW.steq (s2 := sS (sS (sS (sS (sA (sA (sA (sA (sA (sA (sA (sA (sA s 11 f11) 12 f12) 13 f13) 14 f14) 15 f15) 16 f16) 17 f17) 18 f18) 19 f19) 0 0) 25 k25) 33 k33) 34 k34) eq_5 ?_
      refine JW.if_eq (tgt := 48) dX3_evening_33 rfl (fun c_6 => ?_) (fun c_6 => ?_)
      · have K := K.1 c_6
        refine JW.bipush dX3_evening_48 rfl ?_
        exact JW.ireturn dX3_evening_50 rfl rfl ⟨_, rfl, K⟩
      · have K := K.2 c_6
        refine JW.iload_n dX3_evening_36 rfl ?_
        refine JW.i2l dX3_evening_37 ?_
        refine JW.lconst (x := 0) dX3_evening_38 rfl ?_
        refine JW.ldc2 (x := 2) dX3_evening_39 q1923 rfl ?_
        refine JW.mcallS (As := [vL x3, vL 0, vL 2]) dX3_evening_42 vX3_in q1632 (ctX3_in b (sS (sS (sS (sS (sA (sA (sA (sA (sA (sA (sA (sA (sA s 11 f11) 12 f12) 13 f13) 14 f14) 15 f15) 16 f16) 17 f17) 18 f18) 19 f19) 0 0) 25 k25) 33 k33) 34 k34) x3 0 2) (Nat.le_of_ble_eq_true rfl) rfl (Nat.le_of_ble_eq_true rfl) ?_
        rintro _ _ ⟨rfl, eq_7⟩
        refine JW.steq (s2 := sS (sS (sS (sS (sA (sA (sA (sA (sA (sA (sA (sA (sA s 11 f11) 12 f12) 13 f13) 14 f14) 15 f15) 16 f16) 17 f17) 18 f18) 19 f19) 0 0) 25 k25) 33 k33) 34 k34) eq_7 ?_
        refine JW.if_ne (tgt := 51) dX3_evening_45 rfl (fun c_8 => ?_) (fun c_8 => ?_)
        · have K := K.1 c_8
          refine JW.aload_n dX3_evening_51 rfl ?_
          obtain ⟨o_9, K⟩ := K
          refine JW.mcall (As := []) dX3_evening_52 vX3_all rfl q1863 (ctX3_all b (sS (sS (sS (sS (sA (sA (sA (sA (sA (sA (sA (sA (sA s 11 f11) 12 f12) 13 f13) 14 f14) 15 f15) 16 f16) 17 f17) 18 f18) 19 f19) 0 0) 25 k25) 33 k33) 34 k34) o_9) (Nat.le_of_ble_eq_true rfl) rfl (Nat.le_of_ble_eq_true rfl) ?_
          rintro _ _ ⟨f_10, f_11, f_12, f_13, f_14, f_15, f_16, k_17, rfl, rfl, q_18⟩
          refine JW.steq (s2 := sS (sS (sS (sS (sA (sA (sA (sA (sA (sA (sA (sA (sA s 11 f_10) 12 f_11) 13 f_12) 14 f_13) 15 f_14) 16 f_15) 17 f_16) 18 f18) 19 f19) 0 0) 25 k_17) 33 k33) 34 k34) (by simp only [sA_A, sS_S, sA_S, sA_lt, sS_lt, Nat.reduceLT, id_eq] <;> rfl) ?_
          replace K := K f_10 f_11 f_12 f_13 f_14 f_15 f_16 k_17 q_18
          refine JW.iconst dX3_evening_55 rfl ?_
          refine JW.istore (ls' := [(0, vR 351), (1, vI x1), (2, vI x2), (3, vI x3), (4, vI 0)]) dX3_evening_56 (Nat.le_of_ble_eq_true rfl) rfl ?_
          exact JW.pick [0, 1, 2, 3, 4] rfl K
        · have K := K.2 c_8
          refine JW.bipush dX3_evening_48 rfl ?_
          exact JW.ireturn dX3_evening_50 rfl rfl ⟨_, rfl, K⟩
theorem bX3_evening_58 {Q : Option AV → MS → Prop} (b : AH) (s : MS) (x1 : Int) (x2 : Int) (x3 : Int) (x4 : Int) (f11 : Int → Int) (f12 : Int → Int) (f13 : Int → Int) (f14 : Int → Int) (f15 : Int → Int) (f16 : Int → Int) (f17 : Int → Int) (f18 : Int → Int) (f19 : Int → Int) (k0 : Int) (k25 : Int) (k33 : Int) (k34 : Int) (K : ((s.2 6 2) ≤ x4 → HX3_evening_102 Q b s x2 x3 x1 0 0 (-1) 0 0 f11 f12 f13 f14 f15 f16 f17 f18 f19 k0 k25 k33 k34) ∧ (¬ (s.2 6 2) ≤ x4 → (0 ≤ x4 ∧ x4 < 10000) ∧ (HX3_evening_58 Q b s x1 x2 x3 (i32 (x4 + 1)) f11 f12 f13 f14 f15 f16 (upI f17 x4 0) f18 f19 k0 k25 k33 k34))) : HX3_evening_58 Q b s x1 x2 x3 x4 f11 f12 f13 f14 f15 f16 f17 f18 f19 k0 k25 k33 k34 := by
  refine JW.iload dX3_evening_58 rfl ?_
  refine JW.aload_n dX3_evening_60 rfl ?_
  refine JW.mget (v := vR 358) dX3_evening_61 fX3_34 rfl ?_
  refine JW.iconst dX3_evening_64 rfl ?_
  refine JW.mald 6 (x := (s.2 6 2)) dX3_evening_65 (Nat.le_of_ble_eq_true rfl) rfl (by decide) (by decide) rfl ?_
  refine JW.icmp_ge (tgt := 83) dX3_evening_66 rfl (fun c_1 => ?_) (fun c_1 => ?_)
  · have K := K.1 c_1
    refine JW.iload_n dX3_evening_83 rfl ?_
    refine JW.i2l dX3_evening_84 ?_
    refine JW.lstore (ls' := [(0, vR 351), (1, vI x1), (2, vI x2), (3, vI x3), (4, vL x1)]) dX3_evening_85 (Nat.le_of_ble_eq_true rfl) rfl ?_
    refine JW.iconst dX3_evening_87 rfl ?_
    refine JW.istore (ls' := [(0, vR 351), (1, vI x1), (2, vI x2), (3, vI x3), (4, vL x1), (6, vI 0)]) dX3_evening_88 (Nat.le_of_ble_eq_true rfl) rfl ?_
    refine JW.iconst dX3_evening_90 rfl ?_
    refine JW.istore (ls' := [(0, vR 351), (1, vI x1), (2, vI x2), (3, vI x3), (4, vL x1), (6, vI 0), (7, vI 0)]) dX3_evening_91 (Nat.le_of_ble_eq_true rfl) rfl ?_
    refine JW.iconst dX3_evening_93 rfl ?_
    refine JW.istore (ls' := [(0, vR 351), (1, vI x1), (2, vI x2), (3, vI x3), (4, vL x1), (6, vI 0), (7, vI 0), (8, vI (-1))]) dX3_evening_94 (Nat.le_of_ble_eq_true rfl) rfl ?_
    refine JW.iconst dX3_evening_96 rfl ?_
    refine JW.istore (ls' := [(0, vR 351), (1, vI x1), (2, vI x2), (3, vI x3), (4, vL x1), (6, vI 0), (7, vI 0), (8, vI (-1)), (9, vI 0)]) dX3_evening_97 (Nat.le_of_ble_eq_true rfl) rfl ?_
    refine JW.iconst dX3_evening_99 rfl ?_
    refine JW.istore (ls' := [(0, vR 351), (1, vI x1), (2, vI x2), (3, vI x3), (4, vL x1), (6, vI 0), (7, vI 0), (8, vI (-1)), (9, vI 0), (10, vI 0)]) dX3_evening_100 (Nat.le_of_ble_eq_true rfl) rfl ?_
    exact JW.pick [0, 2, 3, 4, 6, 7, 8, 9, 10] rfl K
  · have K := K.2 c_1
    refine JW.aload_n dX3_evening_69 rfl ?_
    refine JW.mget (v := vR 369) dX3_evening_70 fX3_68 rfl ?_
    refine JW.iload dX3_evening_73 rfl ?_
    refine JW.iconst dX3_evening_75 rfl ?_
    obtain ⟨o_2, K⟩ := K
    refine JW.mast 17 (f := f17) dX3_evening_76 (Nat.le_of_ble_eq_true rfl) rfl o_2.1 o_2.2 rfl ?_
    refine JW.steq (s2 := sS (sS (sS (sS (sA (sA (sA (sA (sA (sA (sA (sA (sA s 11 f11) 12 f12) 13 f13) 14 f14) 15 f15) 16 f16) 17 (upI f17 x4 0)) 18 f18) 19 f19) 0 k0) 25 k25) 33 k33) 34 k34) (by simp only [sA_A, sS_S, sA_S, sA_lt, sS_lt, Nat.reduceLT, id_eq] <;> rfl) ?_
    refine JW.iinc (ls' := [(0, vR 351), (1, vI x1), (2, vI x2), (3, vI x3), (4, vI (i32 (x4 + 1)))]) dX3_evening_77 (Nat.le_of_ble_eq_true rfl) rfl rfl ?_
    refine JW.goto (tgt := 58) dX3_evening_80 rfl ?_
    exact JW.pick [0, 1, 2, 3, 4] rfl K
theorem bX3_evening_102 {Q : Option AV → MS → Prop} (b : AH) (s : MS) (x2 : Int) (x3 : Int) (x4 : Int) (x6 : Int) (x7 : Int) (x8 : Int) (x9 : Int) (x10 : Int) (f11 : Int → Int) (f12 : Int → Int) (f13 : Int → Int) (f14 : Int → Int) (f15 : Int → Int) (f16 : Int → Int) (f17 : Int → Int) (f18 : Int → Int) (f19 : Int → Int) (k0 : Int) (k25 : Int) (k33 : Int) (k34 : Int) (K : (x2 ≤ x10 → (¬ x3 = 0 → (¬ x3 = 1 → Q (some (vI x9)) (sS (sS (sS (sS (sA (sA (sA (sA (sA (sA (sA (sA (sA s 11 f11) 12 f12) 13 f13) 14 f14) 15 f15) 16 f16) 17 f17) 18 f18) 19 f19) 0 k0) 25 k25) 33 k33) 34 k34)) ∧ (x3 = 1 → Q (some (vI x7)) (sS (sS (sS (sS (sA (sA (sA (sA (sA (sA (sA (sA (sA s 11 f11) 12 f12) 13 f13) 14 f14) 15 f15) 16 f16) 17 f17) 18 f18) 19 f19) 0 k0) 25 k25) 33 k33) 34 k34))) ∧ (x3 = 0 → Q (some (vI x6)) (sS (sS (sS (sS (sA (sA (sA (sA (sA (sA (sA (sA (sA s 11 f11) 12 f12) 13 f13) 14 f14) 15 f15) 16 f16) 17 f17) 18 f18) 19 f19) 0 k0) 25 k25) 33 k33) 34 k34))) ∧ (¬ x2 ≤ x10 → (s.2 6 2) ≠ 0 ∧ ((¬ x8 = (-1) → (0 ≤ (i32 (i64 (Int.tmod (i64 (Int.tdiv (i64 (Int.tmod (i64 ((i64 (1103515245 * x4)) + 12345)) 2147483648)) 65536)) (s.2 6 2)))) ∧ (i32 (i64 (Int.tmod (i64 (Int.tdiv (i64 (Int.tmod (i64 ((i64 (1103515245 * x4)) + 12345)) 2147483648)) 65536)) (s.2 6 2)))) < 10000) ∧ ((0 ≤ (f15 (i32 (i64 (Int.tmod (i64 (Int.tdiv (i64 (Int.tmod (i64 ((i64 (1103515245 * x4)) + 12345)) 2147483648)) 65536)) (s.2 6 2))))) ∧ (f15 (i32 (i64 (Int.tmod (i64 (Int.tdiv (i64 (Int.tmod (i64 ((i64 (1103515245 * x4)) + 12345)) 2147483648)) 65536)) (s.2 6 2))))) < 10000) ∧ ((¬ (f17 (f15 (i32 (i64 (Int.tmod (i64 (Int.tdiv (i64 (Int.tmod (i64 ((i64 (1103515245 * x4)) + 12345)) 2147483648)) 65536)) (s.2 6 2)))))) = 0 → ((f14 (i32 (i64 (Int.tmod (i64 (Int.tdiv (i64 (Int.tmod (i64 ((i64 (1103515245 * x4)) + 12345)) 2147483648)) 65536)) (s.2 6 2))))) ≤ x7 → (¬ (f15 (i32 (i64 (Int.tmod (i64 (Int.tdiv (i64 (Int.tmod (i64 ((i64 (1103515245 * x4)) + 12345)) 2147483648)) 65536)) (s.2 6 2))))) = x8 → HX3_evening_102 Q b s x2 x3 (i64 (Int.tmod (i64 ((i64 (1103515245 * x4)) + 12345)) 2147483648)) (i32 (x6 + 0)) x7 x8 (i32 (x9 + 0)) (i32 (x10 + 1)) f11 f12 f13 f14 f15 f16 (upI f17 (f15 (i32 (i64 (Int.tmod (i64 (Int.tdiv (i64 (Int.tmod (i64 ((i64 (1103515245 * x4)) + 12345)) 2147483648)) 65536)) (s.2 6 2))))) 1) f18 f19 k0 k25 k33 k34) ∧ ((f15 (i32 (i64 (Int.tmod (i64 (Int.tdiv (i64 (Int.tmod (i64 ((i64 (1103515245 * x4)) + 12345)) 2147483648)) 65536)) (s.2 6 2))))) = x8 → HX3_evening_102 Q b s x2 x3 (i64 (Int.tmod (i64 ((i64 (1103515245 * x4)) + 12345)) 2147483648)) (i32 (x6 + 0)) x7 x8 (i32 (x9 + 1)) (i32 (x10 + 1)) f11 f12 f13 f14 f15 f16 (upI f17 (f15 (i32 (i64 (Int.tmod (i64 (Int.tdiv (i64 (Int.tmod (i64 ((i64 (1103515245 * x4)) + 12345)) 2147483648)) 65536)) (s.2 6 2))))) 1) f18 f19 k0 k25 k33 k34)) ∧ (¬ (f14 (i32 (i64 (Int.tmod (i64 (Int.tdiv (i64 (Int.tmod (i64 ((i64 (1103515245 * x4)) + 12345)) 2147483648)) 65536)) (s.2 6 2))))) ≤ x7 → (¬ (f15 (i32 (i64 (Int.tmod (i64 (Int.tdiv (i64 (Int.tmod (i64 ((i64 (1103515245 * x4)) + 12345)) 2147483648)) 65536)) (s.2 6 2))))) = x8 → HX3_evening_102 Q b s x2 x3 (i64 (Int.tmod (i64 ((i64 (1103515245 * x4)) + 12345)) 2147483648)) (i32 (x6 + 0)) (f14 (i32 (i64 (Int.tmod (i64 (Int.tdiv (i64 (Int.tmod (i64 ((i64 (1103515245 * x4)) + 12345)) 2147483648)) 65536)) (s.2 6 2))))) x8 (i32 (x9 + 0)) (i32 (x10 + 1)) f11 f12 f13 f14 f15 f16 (upI f17 (f15 (i32 (i64 (Int.tmod (i64 (Int.tdiv (i64 (Int.tmod (i64 ((i64 (1103515245 * x4)) + 12345)) 2147483648)) 65536)) (s.2 6 2))))) 1) f18 f19 k0 k25 k33 k34) ∧ ((f15 (i32 (i64 (Int.tmod (i64 (Int.tdiv (i64 (Int.tmod (i64 ((i64 (1103515245 * x4)) + 12345)) 2147483648)) 65536)) (s.2 6 2))))) = x8 → HX3_evening_102 Q b s x2 x3 (i64 (Int.tmod (i64 ((i64 (1103515245 * x4)) + 12345)) 2147483648)) (i32 (x6 + 0)) (f14 (i32 (i64 (Int.tmod (i64 (Int.tdiv (i64 (Int.tmod (i64 ((i64 (1103515245 * x4)) + 12345)) 2147483648)) 65536)) (s.2 6 2))))) x8 (i32 (x9 + 1)) (i32 (x10 + 1)) f11 f12 f13 f14 f15 f16 (upI f17 (f15 (i32 (i64 (Int.tmod (i64 (Int.tdiv (i64 (Int.tmod (i64 ((i64 (1103515245 * x4)) + 12345)) 2147483648)) 65536)) (s.2 6 2))))) 1) f18 f19 k0 k25 k33 k34))) ∧ ((f17 (f15 (i32 (i64 (Int.tmod (i64 (Int.tdiv (i64 (Int.tmod (i64 ((i64 (1103515245 * x4)) + 12345)) 2147483648)) 65536)) (s.2 6 2)))))) = 0 → ((f14 (i32 (i64 (Int.tmod (i64 (Int.tdiv (i64 (Int.tmod (i64 ((i64 (1103515245 * x4)) + 12345)) 2147483648)) 65536)) (s.2 6 2))))) ≤ x7 → (¬ (f15 (i32 (i64 (Int.tmod (i64 (Int.tdiv (i64 (Int.tmod (i64 ((i64 (1103515245 * x4)) + 12345)) 2147483648)) 65536)) (s.2 6 2))))) = x8 → HX3_evening_102 Q b s x2 x3 (i64 (Int.tmod (i64 ((i64 (1103515245 * x4)) + 12345)) 2147483648)) (i32 (x6 + 1)) x7 x8 (i32 (x9 + 0)) (i32 (x10 + 1)) f11 f12 f13 f14 f15 f16 (upI f17 (f15 (i32 (i64 (Int.tmod (i64 (Int.tdiv (i64 (Int.tmod (i64 ((i64 (1103515245 * x4)) + 12345)) 2147483648)) 65536)) (s.2 6 2))))) 1) f18 f19 k0 k25 k33 k34) ∧ ((f15 (i32 (i64 (Int.tmod (i64 (Int.tdiv (i64 (Int.tmod (i64 ((i64 (1103515245 * x4)) + 12345)) 2147483648)) 65536)) (s.2 6 2))))) = x8 → HX3_evening_102 Q b s x2 x3 (i64 (Int.tmod (i64 ((i64 (1103515245 * x4)) + 12345)) 2147483648)) (i32 (x6 + 1)) x7 x8 (i32 (x9 + 1)) (i32 (x10 + 1)) f11 f12 f13 f14 f15 f16 (upI f17 (f15 (i32 (i64 (Int.tmod (i64 (Int.tdiv (i64 (Int.tmod (i64 ((i64 (1103515245 * x4)) + 12345)) 2147483648)) 65536)) (s.2 6 2))))) 1) f18 f19 k0 k25 k33 k34)) ∧ (¬ (f14 (i32 (i64 (Int.tmod (i64 (Int.tdiv (i64 (Int.tmod (i64 ((i64 (1103515245 * x4)) + 12345)) 2147483648)) 65536)) (s.2 6 2))))) ≤ x7 → (¬ (f15 (i32 (i64 (Int.tmod (i64 (Int.tdiv (i64 (Int.tmod (i64 ((i64 (1103515245 * x4)) + 12345)) 2147483648)) 65536)) (s.2 6 2))))) = x8 → HX3_evening_102 Q b s x2 x3 (i64 (Int.tmod (i64 ((i64 (1103515245 * x4)) + 12345)) 2147483648)) (i32 (x6 + 1)) (f14 (i32 (i64 (Int.tmod (i64 (Int.tdiv (i64 (Int.tmod (i64 ((i64 (1103515245 * x4)) + 12345)) 2147483648)) 65536)) (s.2 6 2))))) x8 (i32 (x9 + 0)) (i32 (x10 + 1)) f11 f12 f13 f14 f15 f16 (upI f17 (f15 (i32 (i64 (Int.tmod (i64 (Int.tdiv (i64 (Int.tmod (i64 ((i64 (1103515245 * x4)) + 12345)) 2147483648)) 65536)) (s.2 6 2))))) 1) f18 f19 k0 k25 k33 k34) ∧ ((f15 (i32 (i64 (Int.tmod (i64 (Int.tdiv (i64 (Int.tmod (i64 ((i64 (1103515245 * x4)) + 12345)) 2147483648)) 65536)) (s.2 6 2))))) = x8 → HX3_evening_102 Q b s x2 x3 (i64 (Int.tmod (i64 ((i64 (1103515245 * x4)) + 12345)) 2147483648)) (i32 (x6 + 1)) (f14 (i32 (i64 (Int.tmod (i64 (Int.tdiv (i64 (Int.tmod (i64 ((i64 (1103515245 * x4)) + 12345)) 2147483648)) 65536)) (s.2 6 2))))) x8 (i32 (x9 + 1)) (i32 (x10 + 1)) f11 f12 f13 f14 f15 f16 (upI f17 (f15 (i32 (i64 (Int.tmod (i64 (Int.tdiv (i64 (Int.tmod (i64 ((i64 (1103515245 * x4)) + 12345)) 2147483648)) 65536)) (s.2 6 2))))) 1) f18 f19 k0 k25 k33 k34)))))) ∧ (x8 = (-1) → (0 ≤ (i32 (i64 (Int.tmod (i64 (Int.tdiv (i64 (Int.tmod (i64 ((i64 (1103515245 * x4)) + 12345)) 2147483648)) 65536)) (s.2 6 2)))) ∧ (i32 (i64 (Int.tmod (i64 (Int.tdiv (i64 (Int.tmod (i64 ((i64 (1103515245 * x4)) + 12345)) 2147483648)) 65536)) (s.2 6 2)))) < 10000) ∧ ((0 ≤ (f15 (i32 (i64 (Int.tmod (i64 (Int.tdiv (i64 (Int.tmod (i64 ((i64 (1103515245 * x4)) + 12345)) 2147483648)) 65536)) (s.2 6 2))))) ∧ (f15 (i32 (i64 (Int.tmod (i64 (Int.tdiv (i64 (Int.tmod (i64 ((i64 (1103515245 * x4)) + 12345)) 2147483648)) 65536)) (s.2 6 2))))) < 10000) ∧ ((¬ (f17 (f15 (i32 (i64 (Int.tmod (i64 (Int.tdiv (i64 (Int.tmod (i64 ((i64 (1103515245 * x4)) + 12345)) 2147483648)) 65536)) (s.2 6 2)))))) = 0 → ((f14 (i32 (i64 (Int.tmod (i64 (Int.tdiv (i64 (Int.tmod (i64 ((i64 (1103515245 * x4)) + 12345)) 2147483648)) 65536)) (s.2 6 2))))) ≤ x7 → (¬ (f15 (i32 (i64 (Int.tmod (i64 (Int.tdiv (i64 (Int.tmod (i64 ((i64 (1103515245 * x4)) + 12345)) 2147483648)) 65536)) (s.2 6 2))))) = (f15 (i32 (i64 (Int.tmod (i64 (Int.tdiv (i64 (Int.tmod (i64 ((i64 (1103515245 * x4)) + 12345)) 2147483648)) 65536)) (s.2 6 2))))) → HX3_evening_102 Q b s x2 x3 (i64 (Int.tmod (i64 ((i64 (1103515245 * x4)) + 12345)) 2147483648)) (i32 (x6 + 0)) x7 (f15 (i32 (i64 (Int.tmod (i64 (Int.tdiv (i64 (Int.tmod (i64 ((i64 (1103515245 * x4)) + 12345)) 2147483648)) 65536)) (s.2 6 2))))) (i32 (x9 + 0)) (i32 (x10 + 1)) f11 f12 f13 f14 f15 f16 (upI f17 (f15 (i32 (i64 (Int.tmod (i64 (Int.tdiv (i64 (Int.tmod (i64 ((i64 (1103515245 * x4)) + 12345)) 2147483648)) 65536)) (s.2 6 2))))) 1) f18 f19 k0 k25 k33 k34) ∧ ((f15 (i32 (i64 (Int.tmod (i64 (Int.tdiv (i64 (Int.tmod (i64 ((i64 (1103515245 * x4)) + 12345)) 2147483648)) 65536)) (s.2 6 2))))) = (f15 (i32 (i64 (Int.tmod (i64 (Int.tdiv (i64 (Int.tmod (i64 ((i64 (1103515245 * x4)) + 12345)) 2147483648)) 65536)) (s.2 6 2))))) → HX3_evening_102 Q b s x2 x3 (i64 (Int.tmod (i64 ((i64 (1103515245 * x4)) + 12345)) 2147483648)) (i32 (x6 + 0)) x7 (f15 (i32 (i64 (Int.tmod (i64 (Int.tdiv (i64 (Int.tmod (i64 ((i64 (1103515245 * x4)) + 12345)) 2147483648)) 65536)) (s.2 6 2))))) (i32 (x9 + 1)) (i32 (x10 + 1)) f11 f12 f13 f14 f15 f16 (upI f17 (f15 (i32 (i64 (Int.tmod (i64 (Int.tdiv (i64 (Int.tmod (i64 ((i64 (1103515245 * x4)) + 12345)) 2147483648)) 65536)) (s.2 6 2))))) 1) f18 f19 k0 k25 k33 k34)) ∧ (¬ (f14 (i32 (i64 (Int.tmod (i64 (Int.tdiv (i64 (Int.tmod (i64 ((i64 (1103515245 * x4)) + 12345)) 2147483648)) 65536)) (s.2 6 2))))) ≤ x7 → (¬ (f15 (i32 (i64 (Int.tmod (i64 (Int.tdiv (i64 (Int.tmod (i64 ((i64 (1103515245 * x4)) + 12345)) 2147483648)) 65536)) (s.2 6 2))))) = (f15 (i32 (i64 (Int.tmod (i64 (Int.tdiv (i64 (Int.tmod (i64 ((i64 (1103515245 * x4)) + 12345)) 2147483648)) 65536)) (s.2 6 2))))) → HX3_evening_102 Q b s x2 x3 (i64 (Int.tmod (i64 ((i64 (1103515245 * x4)) + 12345)) 2147483648)) (i32 (x6 + 0)) (f14 (i32 (i64 (Int.tmod (i64 (Int.tdiv (i64 (Int.tmod (i64 ((i64 (1103515245 * x4)) + 12345)) 2147483648)) 65536)) (s.2 6 2))))) (f15 (i32 (i64 (Int.tmod (i64 (Int.tdiv (i64 (Int.tmod (i64 ((i64 (1103515245 * x4)) + 12345)) 2147483648)) 65536)) (s.2 6 2))))) (i32 (x9 + 0)) (i32 (x10 + 1)) f11 f12 f13 f14 f15 f16 (upI f17 (f15 (i32 (i64 (Int.tmod (i64 (Int.tdiv (i64 (Int.tmod (i64 ((i64 (1103515245 * x4)) + 12345)) 2147483648)) 65536)) (s.2 6 2))))) 1) f18 f19 k0 k25 k33 k34) ∧ ((f15 (i32 (i64 (Int.tmod (i64 (Int.tdiv (i64 (Int.tmod (i64 ((i64 (1103515245 * x4)) + 12345)) 2147483648)) 65536)) (s.2 6 2))))) = (f15 (i32 (i64 (Int.tmod (i64 (Int.tdiv (i64 (Int.tmod (i64 ((i64 (1103515245 * x4)) + 12345)) 2147483648)) 65536)) (s.2 6 2))))) → HX3_evening_102 Q b s x2 x3 (i64 (Int.tmod (i64 ((i64 (1103515245 * x4)) + 12345)) 2147483648)) (i32 (x6 + 0)) (f14 (i32 (i64 (Int.tmod (i64 (Int.tdiv (i64 (Int.tmod (i64 ((i64 (1103515245 * x4)) + 12345)) 2147483648)) 65536)) (s.2 6 2))))) (f15 (i32 (i64 (Int.tmod (i64 (Int.tdiv (i64 (Int.tmod (i64 ((i64 (1103515245 * x4)) + 12345)) 2147483648)) 65536)) (s.2 6 2))))) (i32 (x9 + 1)) (i32 (x10 + 1)) f11 f12 f13 f14 f15 f16 (upI f17 (f15 (i32 (i64 (Int.tmod (i64 (Int.tdiv (i64 (Int.tmod (i64 ((i64 (1103515245 * x4)) + 12345)) 2147483648)) 65536)) (s.2 6 2))))) 1) f18 f19 k0 k25 k33 k34))) ∧ ((f17 (f15 (i32 (i64 (Int.tmod (i64 (Int.tdiv (i64 (Int.tmod (i64 ((i64 (1103515245 * x4)) + 12345)) 2147483648)) 65536)) (s.2 6 2)))))) = 0 → ((f14 (i32 (i64 (Int.tmod (i64 (Int.tdiv (i64 (Int.tmod (i64 ((i64 (1103515245 * x4)) + 12345)) 2147483648)) 65536)) (s.2 6 2))))) ≤ x7 → (¬ (f15 (i32 (i64 (Int.tmod (i64 (Int.tdiv (i64 (Int.tmod (i64 ((i64 (1103515245 * x4)) + 12345)) 2147483648)) 65536)) (s.2 6 2))))) = (f15 (i32 (i64 (Int.tmod (i64 (Int.tdiv (i64 (Int.tmod (i64 ((i64 (1103515245 * x4)) + 12345)) 2147483648)) 65536)) (s.2 6 2))))) → HX3_evening_102 Q b s x2 x3 (i64 (Int.tmod (i64 ((i64 (1103515245 * x4)) + 12345)) 2147483648)) (i32 (x6 + 1)) x7 (f15 (i32 (i64 (Int.tmod (i64 (Int.tdiv (i64 (Int.tmod (i64 ((i64 (1103515245 * x4)) + 12345)) 2147483648)) 65536)) (s.2 6 2))))) (i32 (x9 + 0)) (i32 (x10 + 1)) f11 f12 f13 f14 f15 f16 (upI f17 (f15 (i32 (i64 (Int.tmod (i64 (Int.tdiv (i64 (Int.tmod (i64 ((i64 (1103515245 * x4)) + 12345)) 2147483648)) 65536)) (s.2 6 2))))) 1) f18 f19 k0 k25 k33 k34) ∧ ((f15 (i32 (i64 (Int.tmod (i64 (Int.tdiv (i64 (Int.tmod (i64 ((i64 (1103515245 * x4)) + 12345)) 2147483648)) 65536)) (s.2 6 2))))) = (f15 (i32 (i64 (Int.tmod (i64 (Int.tdiv (i64 (Int.tmod (i64 ((i64 (1103515245 * x4)) + 12345)) 2147483648)) 65536)) (s.2 6 2))))) → HX3_evening_102 Q b s x2 x3 (i64 (Int.tmod (i64 ((i64 (1103515245 * x4)) + 12345)) 2147483648)) (i32 (x6 + 1)) x7 (f15 (i32 (i64 (Int.tmod (i64 (Int.tdiv (i64 (Int.tmod (i64 ((i64 (1103515245 * x4)) + 12345)) 2147483648)) 65536)) (s.2 6 2))))) (i32 (x9 + 1)) (i32 (x10 + 1)) f11 f12 f13 f14 f15 f16 (upI f17 (f15 (i32 (i64 (Int.tmod (i64 (Int.tdiv (i64 (Int.tmod (i64 ((i64 (1103515245 * x4)) + 12345)) 2147483648)) 65536)) (s.2 6 2))))) 1) f18 f19 k0 k25 k33 k34)) ∧ (¬ (f14 (i32 (i64 (Int.tmod (i64 (Int.tdiv (i64 (Int.tmod (i64 ((i64 (1103515245 * x4)) + 12345)) 2147483648)) 65536)) (s.2 6 2))))) ≤ x7 → (¬ (f15 (i32 (i64 (Int.tmod (i64 (Int.tdiv (i64 (Int.tmod (i64 ((i64 (1103515245 * x4)) + 12345)) 2147483648)) 65536)) (s.2 6 2))))) = (f15 (i32 (i64 (Int.tmod (i64 (Int.tdiv (i64 (Int.tmod (i64 ((i64 (1103515245 * x4)) + 12345)) 2147483648)) 65536)) (s.2 6 2))))) → HX3_evening_102 Q b s x2 x3 (i64 (Int.tmod (i64 ((i64 (1103515245 * x4)) + 12345)) 2147483648)) (i32 (x6 + 1)) (f14 (i32 (i64 (Int.tmod (i64 (Int.tdiv (i64 (Int.tmod (i64 ((i64 (1103515245 * x4)) + 12345)) 2147483648)) 65536)) (s.2 6 2))))) (f15 (i32 (i64 (Int.tmod (i64 (Int.tdiv (i64 (Int.tmod (i64 ((i64 (1103515245 * x4)) + 12345)) 2147483648)) 65536)) (s.2 6 2))))) (i32 (x9 + 0)) (i32 (x10 + 1)) f11 f12 f13 f14 f15 f16 (upI f17 (f15 (i32 (i64 (Int.tmod (i64 (Int.tdiv (i64 (Int.tmod (i64 ((i64 (1103515245 * x4)) + 12345)) 2147483648)) 65536)) (s.2 6 2))))) 1) f18 f19 k0 k25 k33 k34) ∧ ((f15 (i32 (i64 (Int.tmod (i64 (Int.tdiv (i64 (Int.tmod (i64 ((i64 (1103515245 * x4)) + 12345)) 2147483648)) 65536)) (s.2 6 2))))) = (f15 (i32 (i64 (Int.tmod (i64 (Int.tdiv (i64 (Int.tmod (i64 ((i64 (1103515245 * x4)) + 12345)) 2147483648)) 65536)) (s.2 6 2))))) → HX3_evening_102 Q b s x2 x3 (i64 (Int.tmod (i64 ((i64 (1103515245 * x4)) + 12345)) 2147483648)) (i32 (x6 + 1)) (f14 (i32 (i64 (Int.tmod (i64 (Int.tdiv (i64 (Int.tmod (i64 ((i64 (1103515245 * x4)) + 12345)) 2147483648)) 65536)) (s.2 6 2))))) (f15 (i32 (i64 (Int.tmod (i64 (Int.tdiv (i64 (Int.tmod (i64 ((i64 (1103515245 * x4)) + 12345)) 2147483648)) 65536)) (s.2 6 2))))) (i32 (x9 + 1)) (i32 (x10 + 1)) f11 f12 f13 f14 f15 f16 (upI f17 (f15 (i32 (i64 (Int.tmod (i64 (Int.tdiv (i64 (Int.tmod (i64 ((i64 (1103515245 * x4)) + 12345)) 2147483648)) 65536)) (s.2 6 2))))) 1) f18 f19 k0 k25 k33 k34))))))))) : HX3_evening_102 Q b s x2 x3 x4 x6 x7 x8 x9 x10 f11 f12 f13 f14 f15 f16 f17 f18 f19 k0 k25 k33 k34 := by
  refine JW.iload dX3_evening_102 rfl ?_
  refine JW.iload_n dX3_evening_104 rfl ?_
  refine JW.icmp_ge (tgt := 253) dX3_evening_105 rfl (fun c_1 => ?_) (fun c_1 => ?_)
  · have K := K.1 c_1
    refine JW.iload_n dX3_evening_253 rfl ?_
    refine JW.if_ne (tgt := 262) dX3_evening_254 rfl (fun c_2 => ?_) (fun c_2 => ?_)
    · have K := K.1 c_2
      refine JW.iload_n dX3_evening_262 rfl ?_
      refine JW.iconst dX3_evening_263 rfl ?_
      refine JW.icmp_ne (tgt := 272) dX3_evening_264 rfl (fun c_3 => ?_) (fun c_3 => ?_)
      · have K := K.1 c_3
        refine JW.iload dX3_evening_272 rfl ?_
        exact JW.ireturn dX3_evening_274 rfl rfl ⟨_, rfl, K⟩
      · have K := K.2 c_3
        refine JW.iload dX3_evening_267 rfl ?_
        refine JW.goto (tgt := 274) dX3_evening_269 rfl ?_
        exact JW.ireturn dX3_evening_274 rfl rfl ⟨_, rfl, K⟩
    · have K := K.2 c_2
      refine JW.iload dX3_evening_257 rfl ?_
      refine JW.goto (tgt := 274) dX3_evening_259 rfl ?_
      exact JW.ireturn dX3_evening_274 rfl rfl ⟨_, rfl, K⟩
  · have K := K.2 c_1
    refine JW.ldc2 (x := 1103515245) dX3_evening_108 q2079 rfl ?_
    refine JW.lload dX3_evening_111 rfl ?_
    refine JW.lmul dX3_evening_113 ?_
    refine JW.ldc2 (x := 12345) dX3_evening_114 q2080 rfl ?_
    refine JW.ladd dX3_evening_117 ?_
    refine JW.ldc2 (x := 2147483648) dX3_evening_118 q2081 rfl ?_
    refine JW.lrem dX3_evening_121 (by decide) ?_
    refine JW.lstore (ls' := [(0, vR 351), (2, vI x2), (3, vI x3), (4, vL (i64 (Int.tmod (i64 ((i64 (1103515245 * x4)) + 12345)) 2147483648))), (6, vI x6), (7, vI x7), (8, vI x8), (9, vI x9), (10, vI x10)]) dX3_evening_122 (Nat.le_of_ble_eq_true rfl) rfl ?_
    refine JW.lload dX3_evening_124 rfl ?_
    refine JW.ldc2 (x := 65536) dX3_evening_126 q2082 rfl ?_
    refine JW.ldiv dX3_evening_129 (by decide) ?_
    refine JW.aload_n dX3_evening_130 rfl ?_
    refine JW.mget (v := vR 358) dX3_evening_131 fX3_34 rfl ?_
    refine JW.iconst dX3_evening_134 rfl ?_
    refine JW.mald 6 (x := (s.2 6 2)) dX3_evening_135 (Nat.le_of_ble_eq_true rfl) rfl (by decide) (by decide) rfl ?_
    refine JW.i2l dX3_evening_136 ?_
    obtain ⟨o_4, K⟩ := K
    refine JW.lrem dX3_evening_137 o_4 ?_
    refine JW.l2i dX3_evening_138 ?_
    refine JW.istore (ls' := [(0, vR 351), (2, vI x2), (3, vI x3), (4, vL (i64 (Int.tmod (i64 ((i64 (1103515245 * x4)) + 12345)) 2147483648))), (6, vI x6), (7, vI x7), (8, vI x8), (9, vI x9), (10, vI x10), (11, vI (i32 (i64 (Int.tmod (i64 (Int.tdiv (i64 (Int.tmod (i64 ((i64 (1103515245 * x4)) + 12345)) 2147483648)) 65536)) (s.2 6 2)))))]) dX3_evening_139 (Nat.le_of_ble_eq_true rfl) rfl ?_
    refine JW.iload dX3_evening_141 rfl ?_
    refine JW.iconst dX3_evening_143 rfl ?_
    refine JW.icmp_ne (tgt := 157) dX3_evening_144 rfl (fun c_5 => ?_) (fun c_5 => ?_)
    · have K := K.1 c_5
      refine JW.iload dX3_evening_157 rfl ?_
      refine JW.istore (ls' := [(0, vR 351), (2, vI x2), (3, vI x3), (4, vL (i64 (Int.tmod (i64 ((i64 (1103515245 * x4)) + 12345)) 2147483648))), (6, vI x6), (7, vI x7), (8, vI x8), (9, vI x9), (10, vI x10), (11, vI (i32 (i64 (Int.tmod (i64 (Int.tdiv (i64 (Int.tmod (i64 ((i64 (1103515245 * x4)) + 12345)) 2147483648)) 65536)) (s.2 6 2)))))]) dX3_evening_159 (Nat.le_of_ble_eq_true rfl) rfl ?_
      refine JW.iload dX3_evening_161 rfl ?_
      refine JW.aload_n dX3_evening_163 rfl ?_
      refine JW.mget (v := vR 369) dX3_evening_164 fX3_68 rfl ?_
      refine JW.aload_n dX3_evening_167 rfl ?_
      refine JW.mget (v := vR 367) dX3_evening_168 fX3_62 rfl ?_
      refine JW.iload dX3_evening_171 rfl ?_
      obtain ⟨o_6, K⟩ := K
      refine JW.mald 15 (x := (f15 (i32 (i64 (Int.tmod (i64 (Int.tdiv (i64 (Int.tmod (i64 ((i64 (1103515245 * x4)) + 12345)) 2147483648)) 65536)) (s.2 6 2)))))) dX3_evening_173 (Nat.le_of_ble_eq_true rfl) rfl o_6.1 o_6.2 rfl ?_
      obtain ⟨o_7, K⟩ := K
      refine JW.mald 17 (x := (f17 (f15 (i32 (i64 (Int.tmod (i64 (Int.tdiv (i64 (Int.tmod (i64 ((i64 (1103515245 * x4)) + 12345)) 2147483648)) 65536)) (s.2 6 2))))))) dX3_evening_174 (Nat.le_of_ble_eq_true rfl) rfl o_7.1 o_7.2 rfl ?_
      refine JW.if_ne (tgt := 182) dX3_evening_175 rfl (fun c_8 => ?_) (fun c_8 => ?_)
      · have K := K.1 c_8
        refine JW.iconst dX3_evening_182 rfl ?_
        refine JW.iadd dX3_evening_183 ?_
        refine JW.istore (ls' := [(0, vR 351), (2, vI x2), (3, vI x3), (4, vL (i64 (Int.tmod (i64 ((i64 (1103515245 * x4)) + 12345)) 2147483648))), (6, vI (i32 (x6 + 0))), (7, vI x7), (8, vI x8), (9, vI x9), (10, vI x10), (11, vI (i32 (i64 (Int.tmod (i64 (Int.tdiv (i64 (Int.tmod (i64 ((i64 (1103515245 * x4)) + 12345)) 2147483648)) 65536)) (s.2 6 2)))))]) dX3_evening_184 (Nat.le_of_ble_eq_true rfl) rfl ?_
        refine JW.aload_n dX3_evening_186 rfl ?_
        refine JW.mget (v := vR 369) dX3_evening_187 fX3_68 rfl ?_
        refine JW.aload_n dX3_evening_190 rfl ?_
        refine JW.mget (v := vR 367) dX3_evening_191 fX3_62 rfl ?_
        refine JW.iload dX3_evening_194 rfl ?_
        refine JW.mald 15 (x := (f15 (i32 (i64 (Int.tmod (i64 (Int.tdiv (i64 (Int.tmod (i64 ((i64 (1103515245 * x4)) + 12345)) 2147483648)) 65536)) (s.2 6 2)))))) dX3_evening_196 (Nat.le_of_ble_eq_true rfl) rfl o_6.1 o_6.2 rfl ?_
        refine JW.iconst dX3_evening_197 rfl ?_
        refine JW.mast 17 (f := f17) dX3_evening_198 (Nat.le_of_ble_eq_true rfl) rfl o_7.1 o_7.2 rfl ?_
        refine JW.steq (s2 := sS (sS (sS (sS (sA (sA (sA (sA (sA (sA (sA (sA (sA s 11 f11) 12 f12) 13 f13) 14 f14) 15 f15) 16 f16) 17 (upI f17 (f15 (i32 (i64 (Int.tmod (i64 (Int.tdiv (i64 (Int.tmod (i64 ((i64 (1103515245 * x4)) + 12345)) 2147483648)) 65536)) (s.2 6 2))))) 1)) 18 f18) 19 f19) 0 k0) 25 k25) 33 k33) 34 k34) (by simp only [sA_A, sS_S, sA_S, sA_lt, sS_lt, Nat.reduceLT, id_eq] <;> rfl) ?_
        refine JW.aload_n dX3_evening_199 rfl ?_
        refine JW.mget (v := vR 366) dX3_evening_200 fX3_59 rfl ?_
        refine JW.iload dX3_evening_203 rfl ?_
        refine JW.mald 14 (x := (f14 (i32 (i64 (Int.tmod (i64 (Int.tdiv (i64 (Int.tmod (i64 ((i64 (1103515245 * x4)) + 12345)) 2147483648)) 65536)) (s.2 6 2)))))) dX3_evening_205 (Nat.le_of_ble_eq_true rfl) rfl o_6.1 o_6.2 rfl ?_
        refine JW.iload dX3_evening_206 rfl ?_
        refine JW.icmp_le (tgt := 221) dX3_evening_208 rfl (fun c_9 => ?_) (fun c_9 => ?_)
        · have K := K.1 c_9
          refine JW.iload dX3_evening_221 rfl ?_
          refine JW.istore (ls' := [(0, vR 351), (2, vI x2), (3, vI x3), (4, vL (i64 (Int.tmod (i64 ((i64 (1103515245 * x4)) + 12345)) 2147483648))), (6, vI (i32 (x6 + 0))), (7, vI x7), (8, vI x8), (9, vI x9), (10, vI x10), (11, vI (i32 (i64 (Int.tmod (i64 (Int.tdiv (i64 (Int.tmod (i64 ((i64 (1103515245 * x4)) + 12345)) 2147483648)) 65536)) (s.2 6 2)))))]) dX3_evening_223 (Nat.le_of_ble_eq_true rfl) rfl ?_
          refine JW.iload dX3_evening_225 rfl ?_
          refine JW.aload_n dX3_evening_227 rfl ?_
          refine JW.mget (v := vR 367) dX3_evening_228 fX3_62 rfl ?_
          refine JW.iload dX3_evening_231 rfl ?_
          refine JW.mald 15 (x := (f15 (i32 (i64 (Int.tmod (i64 (Int.tdiv (i64 (Int.tmod (i64 ((i64 (1103515245 * x4)) + 12345)) 2147483648)) 65536)) (s.2 6 2)))))) dX3_evening_233 (Nat.le_of_ble_eq_true rfl) rfl o_6.1 o_6.2 rfl ?_
          refine JW.iload dX3_evening_234 rfl ?_
          refine JW.icmp_ne (tgt := 243) dX3_evening_236 rfl (fun c_10 => ?_) (fun c_10 => ?_)
          · have K := K.1 c_10
            refine JW.iconst dX3_evening_243 rfl ?_
            refine JW.iadd dX3_evening_244 ?_
            refine JW.istore (ls' := [(0, vR 351), (2, vI x2), (3, vI x3), (4, vL (i64 (Int.tmod (i64 ((i64 (1103515245 * x4)) + 12345)) 2147483648))), (6, vI (i32 (x6 + 0))), (7, vI x7), (8, vI x8), (9, vI (i32 (x9 + 0))), (10, vI x10), (11, vI (i32 (i64 (Int.tmod (i64 (Int.tdiv (i64 (Int.tmod (i64 ((i64 (1103515245 * x4)) + 12345)) 2147483648)) 65536)) (s.2 6 2)))))]) dX3_evening_245 (Nat.le_of_ble_eq_true rfl) rfl ?_
            refine JW.iinc (ls' := [(0, vR 351), (2, vI x2), (3, vI x3), (4, vL (i64 (Int.tmod (i64 ((i64 (1103515245 * x4)) + 12345)) 2147483648))), (6, vI (i32 (x6 + 0))), (7, vI x7), (8, vI x8), (9, vI (i32 (x9 + 0))), (10, vI (i32 (x10 + 1))), (11, vI (i32 (i64 (Int.tmod (i64 (Int.tdiv (i64 (Int.tmod (i64 ((i64 (1103515245 * x4)) + 12345)) 2147483648)) 65536)) (s.2 6 2)))))]) dX3_evening_247 (Nat.le_of_ble_eq_true rfl) rfl rfl ?_
            refine JW.goto (tgt := 102) dX3_evening_250 rfl ?_
            exact JW.pick [0, 2, 3, 4, 6, 7, 8, 9, 10] rfl K
          · have K := K.2 c_10
            refine JW.iconst dX3_evening_239 rfl ?_
            refine JW.goto (tgt := 244) dX3_evening_240 rfl ?_
            refine JW.iadd dX3_evening_244 ?_
            refine JW.istore (ls' := [(0, vR 351), (2, vI x2), (3, vI x3), (4, vL (i64 (Int.tmod (i64 ((i64 (1103515245 * x4)) + 12345)) 2147483648))), (6, vI (i32 (x6 + 0))), (7, vI x7), (8, vI x8), (9, vI (i32 (x9 + 1))), (10, vI x10), (11, vI (i32 (i64 (Int.tmod (i64 (Int.tdiv (i64 (Int.tmod (i64 ((i64 (1103515245 * x4)) + 12345)) 2147483648)) 65536)) (s.2 6 2)))))]) dX3_evening_245 (Nat.le_of_ble_eq_true rfl) rfl ?_
            refine JW.iinc (ls' := [(0, vR 351), (2, vI x2), (3, vI x3), (4, vL (i64 (Int.tmod (i64 ((i64 (1103515245 * x4)) + 12345)) 2147483648))), (6, vI (i32 (x6 + 0))), (7, vI x7), (8, vI x8), (9, vI (i32 (x9 + 1))), (10, vI (i32 (x10 + 1))), (11, vI (i32 (i64 (Int.tmod (i64 (Int.tdiv (i64 (Int.tmod (i64 ((i64 (1103515245 * x4)) + 12345)) 2147483648)) 65536)) (s.2 6 2)))))]) dX3_evening_247 (Nat.le_of_ble_eq_true rfl) rfl rfl ?_
            refine JW.goto (tgt := 102) dX3_evening_250 rfl ?_
            exact JW.pick [0, 2, 3, 4, 6, 7, 8, 9, 10] rfl K
        · have K := K.2 c_9
          refine JW.aload_n dX3_evening_211 rfl ?_
          refine JW.mget (v := vR 366) dX3_evening_212 fX3_59 rfl ?_
          refine JW.iload dX3_evening_215 rfl ?_
          refine JW.mald 14 (x := (f14 (i32 (i64 (Int.tmod (i64 (Int.tdiv (i64 (Int.tmod (i64 ((i64 (1103515245 * x4)) + 12345)) 2147483648)) 65536)) (s.2 6 2)))))) dX3_evening_217 (Nat.le_of_ble_eq_true rfl) rfl o_6.1 o_6.2 rfl ?_
          refine JW.goto (tgt := 223) dX3_evening_218 rfl ?_
          refine JW.istore (ls' := [(0, vR 351), (2, vI x2), (3, vI x3), (4, vL (i64 (Int.tmod (i64 ((i64 (1103515245 * x4)) + 12345)) 2147483648))), (6, vI (i32 (x6 + 0))), (7, vI (f14 (i32 (i64 (Int.tmod (i64 (Int.tdiv (i64 (Int.tmod (i64 ((i64 (1103515245 * x4)) + 12345)) 2147483648)) 65536)) (s.2 6 2)))))), (8, vI x8), (9, vI x9), (10, vI x10), (11, vI (i32 (i64 (Int.tmod (i64 (Int.tdiv (i64 (Int.tmod (i64 ((i64 (1103515245 * x4)) + 12345)) 2147483648)) 65536)) (s.2 6 2)))))]) dX3_evening_223 (Nat.le_of_ble_eq_true rfl) rfl ?_
          refine JW.iload dX3_evening_225 rfl ?_
          refine JW.aload_n dX3_evening_227 rfl ?_
          refine JW.mget (v := vR 367) dX3_evening_228 fX3_62 rfl ?_
          refine JW.iload dX3_evening_231 rfl ?_
          refine JW.mald 15 (x := (f15 (i32 (i64 (Int.tmod (i64 (Int.tdiv (i64 (Int.tmod (i64 ((i64 (1103515245 * x4)) + 12345)) 2147483648)) 65536)) (s.2 6 2)))))) dX3_evening_233 (Nat.le_of_ble_eq_true rfl) rfl o_6.1 o_6.2 rfl ?_
          refine JW.iload dX3_evening_234 rfl ?_
          refine JW.icmp_ne (tgt := 243) dX3_evening_236 rfl (fun c_11 => ?_) (fun c_11 => ?_)
          · have K := K.1 c_11
            refine JW.iconst dX3_evening_243 rfl ?_
            refine JW.iadd dX3_evening_244 ?_
            refine JW.istore (ls' := [(0, vR 351), (2, vI x2), (3, vI x3), (4, vL (i64 (Int.tmod (i64 ((i64 (1103515245 * x4)) + 12345)) 2147483648))), (6, vI (i32 (x6 + 0))), (7, vI (f14 (i32 (i64 (Int.tmod (i64 (Int.tdiv (i64 (Int.tmod (i64 ((i64 (1103515245 * x4)) + 12345)) 2147483648)) 65536)) (s.2 6 2)))))), (8, vI x8), (9, vI (i32 (x9 + 0))), (10, vI x10), (11, vI (i32 (i64 (Int.tmod (i64 (Int.tdiv (i64 (Int.tmod (i64 ((i64 (1103515245 * x4)) + 12345)) 2147483648)) 65536)) (s.2 6 2)))))]) dX3_evening_245 (Nat.le_of_ble_eq_true rfl) rfl ?_
            refine JW.iinc (ls' := [(0, vR 351), (2, vI x2), (3, vI x3), (4, vL (i64 (Int.tmod (i64 ((i64 (1103515245 * x4)) + 12345)) 2147483648))), (6, vI (i32 (x6 + 0))), (7, vI (f14 (i32 (i64 (Int.tmod (i64 (Int.tdiv (i64 (Int.tmod (i64 ((i64 (1103515245 * x4)) + 12345)) 2147483648)) 65536)) (s.2 6 2)))))), (8, vI x8), (9, vI (i32 (x9 + 0))), (10, vI (i32 (x10 + 1))), (11, vI (i32 (i64 (Int.tmod (i64 (Int.tdiv (i64 (Int.tmod (i64 ((i64 (1103515245 * x4)) + 12345)) 2147483648)) 65536)) (s.2 6 2)))))]) dX3_evening_247 (Nat.le_of_ble_eq_true rfl) rfl rfl ?_
            refine JW.goto (tgt := 102) dX3_evening_250 rfl ?_
            exact JW.pick [0, 2, 3, 4, 6, 7, 8, 9, 10] rfl K
          · have K := K.2 c_11
            refine JW.iconst dX3_evening_239 rfl ?_
            refine JW.goto (tgt := 244) dX3_evening_240 rfl ?_
            refine JW.iadd dX3_evening_244 ?_
            refine JW.istore (ls' := [(0, vR 351), (2, vI x2), (3, vI x3), (4, vL (i64 (Int.tmod (i64 ((i64 (1103515245 * x4)) + 12345)) 2147483648))), (6, vI (i32 (x6 + 0))), (7, vI (f14 (i32 (i64 (Int.tmod (i64 (Int.tdiv (i64 (Int.tmod (i64 ((i64 (1103515245 * x4)) + 12345)) 2147483648)) 65536)) (s.2 6 2)))))), (8, vI x8), (9, vI (i32 (x9 + 1))), (10, vI x10), (11, vI (i32 (i64 (Int.tmod (i64 (Int.tdiv (i64 (Int.tmod (i64 ((i64 (1103515245 * x4)) + 12345)) 2147483648)) 65536)) (s.2 6 2)))))]) dX3_evening_245 (Nat.le_of_ble_eq_true rfl) rfl ?_
            refine JW.iinc (ls' := [(0, vR 351), (2, vI x2), (3, vI x3), (4, vL (i64 (Int.tmod (i64 ((i64 (1103515245 * x4)) + 12345)) 2147483648))), (6, vI (i32 (x6 + 0))), (7, vI (f14 (i32 (i64 (Int.tmod (i64 (Int.tdiv (i64 (Int.tmod (i64 ((i64 (1103515245 * x4)) + 12345)) 2147483648)) 65536)) (s.2 6 2)))))), (8, vI x8), (9, vI (i32 (x9 + 1))), (10, vI (i32 (x10 + 1))), (11, vI (i32 (i64 (Int.tmod (i64 (Int.tdiv (i64 (Int.tmod (i64 ((i64 (1103515245 * x4)) + 12345)) 2147483648)) 65536)) (s.2 6 2)))))]) dX3_evening_247 (Nat.le_of_ble_eq_true rfl) rfl rfl ?_
            refine JW.goto (tgt := 102) dX3_evening_250 rfl ?_
            exact JW.pick [0, 2, 3, 4, 6, 7, 8, 9, 10] rfl K
      · have K := K.2 c_8
        refine JW.iconst dX3_evening_178 rfl ?_
        refine JW.goto (tgt := 183) dX3_evening_179 rfl ?_
        refine JW.iadd dX3_evening_183 ?_
        refine JW.istore (ls' := [(0, vR 351), (2, vI x2), (3, vI x3), (4, vL (i64 (Int.tmod (i64 ((i64 (1103515245 * x4)) + 12345)) 2147483648))), (6, vI (i32 (x6 + 1))), (7, vI x7), (8, vI x8), (9, vI x9), (10, vI x10), (11, vI (i32 (i64 (Int.tmod (i64 (Int.tdiv (i64 (Int.tmod (i64 ((i64 (1103515245 * x4)) + 12345)) 2147483648)) 65536)) (s.2 6 2)))))]) dX3_evening_184 (Nat.le_of_ble_eq_true rfl) rfl ?_
        refine JW.aload_n dX3_evening_186 rfl ?_
        refine JW.mget (v := vR 369) dX3_evening_187 fX3_68 rfl ?_
        refine JW.aload_n dX3_evening_190 rfl ?_
        refine JW.mget (v := vR 367) dX3_evening_191 fX3_62 rfl ?_
        refine JW.iload dX3_evening_194 rfl ?_
        refine JW.mald 15 (x := (f15 (i32 (i64 (Int.tmod (i64 (Int.tdiv (i64 (Int.tmod (i64 ((i64 (1103515245 * x4)) + 12345)) 2147483648)) 65536)) (s.2 6 2)))))) dX3_evening_196 (Nat.le_of_ble_eq_true rfl) rfl o_6.1 o_6.2 rfl ?_
        refine JW.iconst dX3_evening_197 rfl ?_
        refine JW.mast 17 (f := f17) dX3_evening_198 (Nat.le_of_ble_eq_true rfl) rfl o_7.1 o_7.2 rfl ?_
        refine JW.steq (s2 := sS (sS (sS (sS (sA (sA (sA (sA (sA (sA (sA (sA (sA s 11 f11) 12 f12) 13 f13) 14 f14) 15 f15) 16 f16) 17 (upI f17 (f15 (i32 (i64 (Int.tmod (i64 (Int.tdiv (i64 (Int.tmod (i64 ((i64 (1103515245 * x4)) + 12345)) 2147483648)) 65536)) (s.2 6 2))))) 1)) 18 f18) 19 f19) 0 k0) 25 k25) 33 k33) 34 k34) (by simp only [sA_A, sS_S, sA_S, sA_lt, sS_lt, Nat.reduceLT, id_eq] <;> rfl) ?_
        refine JW.aload_n dX3_evening_199 rfl ?_
        refine JW.mget (v := vR 366) dX3_evening_200 fX3_59 rfl ?_
        refine JW.iload dX3_evening_203 rfl ?_
        refine JW.mald 14 (x := (f14 (i32 (i64 (Int.tmod (i64 (Int.tdiv (i64 (Int.tmod (i64 ((i64 (1103515245 * x4)) + 12345)) 2147483648)) 65536)) (s.2 6 2)))))) dX3_evening_205 (Nat.le_of_ble_eq_true rfl) rfl o_6.1 o_6.2 rfl ?_
        refine JW.iload dX3_evening_206 rfl ?_
        refine JW.icmp_le (tgt := 221) dX3_evening_208 rfl (fun c_12 => ?_) (fun c_12 => ?_)
        · have K := K.1 c_12
          refine JW.iload dX3_evening_221 rfl ?_
          refine JW.istore (ls' := [(0, vR 351), (2, vI x2), (3, vI x3), (4, vL (i64 (Int.tmod (i64 ((i64 (1103515245 * x4)) + 12345)) 2147483648))), (6, vI (i32 (x6 + 1))), (7, vI x7), (8, vI x8), (9, vI x9), (10, vI x10), (11, vI (i32 (i64 (Int.tmod (i64 (Int.tdiv (i64 (Int.tmod (i64 ((i64 (1103515245 * x4)) + 12345)) 2147483648)) 65536)) (s.2 6 2)))))]) dX3_evening_223 (Nat.le_of_ble_eq_true rfl) rfl ?_
          refine JW.iload dX3_evening_225 rfl ?_
          refine JW.aload_n dX3_evening_227 rfl ?_
          refine JW.mget (v := vR 367) dX3_evening_228 fX3_62 rfl ?_
          refine JW.iload dX3_evening_231 rfl ?_
          refine JW.mald 15 (x := (f15 (i32 (i64 (Int.tmod (i64 (Int.tdiv (i64 (Int.tmod (i64 ((i64 (1103515245 * x4)) + 12345)) 2147483648)) 65536)) (s.2 6 2)))))) dX3_evening_233 (Nat.le_of_ble_eq_true rfl) rfl o_6.1 o_6.2 rfl ?_
          refine JW.iload dX3_evening_234 rfl ?_
          refine JW.icmp_ne (tgt := 243) dX3_evening_236 rfl (fun c_13 => ?_) (fun c_13 => ?_)
          · have K := K.1 c_13
            refine JW.iconst dX3_evening_243 rfl ?_
            refine JW.iadd dX3_evening_244 ?_
            refine JW.istore (ls' := [(0, vR 351), (2, vI x2), (3, vI x3), (4, vL (i64 (Int.tmod (i64 ((i64 (1103515245 * x4)) + 12345)) 2147483648))), (6, vI (i32 (x6 + 1))), (7, vI x7), (8, vI x8), (9, vI (i32 (x9 + 0))), (10, vI x10), (11, vI (i32 (i64 (Int.tmod (i64 (Int.tdiv (i64 (Int.tmod (i64 ((i64 (1103515245 * x4)) + 12345)) 2147483648)) 65536)) (s.2 6 2)))))]) dX3_evening_245 (Nat.le_of_ble_eq_true rfl) rfl ?_
            refine JW.iinc (ls' := [(0, vR 351), (2, vI x2), (3, vI x3), (4, vL (i64 (Int.tmod (i64 ((i64 (1103515245 * x4)) + 12345)) 2147483648))), (6, vI (i32 (x6 + 1))), (7, vI x7), (8, vI x8), (9, vI (i32 (x9 + 0))), (10, vI (i32 (x10 + 1))), (11, vI (i32 (i64 (Int.tmod (i64 (Int.tdiv (i64 (Int.tmod (i64 ((i64 (1103515245 * x4)) + 12345)) 2147483648)) 65536)) (s.2 6 2)))))]) dX3_evening_247 (Nat.le_of_ble_eq_true rfl) rfl rfl ?_
            refine JW.goto (tgt := 102) dX3_evening_250 rfl ?_
            exact JW.pick [0, 2, 3, 4, 6, 7, 8, 9, 10] rfl K
          · have K := K.2 c_13
            refine JW.iconst dX3_evening_239 rfl ?_
            refine JW.goto (tgt := 244) dX3_evening_240 rfl ?_
            refine JW.iadd dX3_evening_244 ?_
            refine JW.istore (ls' := [(0, vR 351), (2, vI x2), (3, vI x3), (4, vL (i64 (Int.tmod (i64 ((i64 (1103515245 * x4)) + 12345)) 2147483648))), (6, vI (i32 (x6 + 1))), (7, vI x7), (8, vI x8), (9, vI (i32 (x9 + 1))), (10, vI x10), (11, vI (i32 (i64 (Int.tmod (i64 (Int.tdiv (i64 (Int.tmod (i64 ((i64 (1103515245 * x4)) + 12345)) 2147483648)) 65536)) (s.2 6 2)))))]) dX3_evening_245 (Nat.le_of_ble_eq_true rfl) rfl ?_
            refine JW.iinc (ls' := [(0, vR 351), (2, vI x2), (3, vI x3), (4, vL (i64 (Int.tmod (i64 ((i64 (1103515245 * x4)) + 12345)) 2147483648))), (6, vI (i32 (x6 + 1))), (7, vI x7), (8, vI x8), (9, vI (i32 (x9 + 1))), (10, vI (i32 (x10 + 1))), (11, vI (i32 (i64 (Int.tmod (i64 (Int.tdiv (i64 (Int.tmod (i64 ((i64 (1103515245 * x4)) + 12345)) 2147483648)) 65536)) (s.2 6 2)))))]) dX3_evening_247 (Nat.le_of_ble_eq_true rfl) rfl rfl ?_
            refine JW.goto (tgt := 102) dX3_evening_250 rfl ?_
            exact JW.pick [0, 2, 3, 4, 6, 7, 8, 9, 10] rfl K
        · have K := K.2 c_12
          refine JW.aload_n dX3_evening_211 rfl ?_
          refine JW.mget (v := vR 366) dX3_evening_212 fX3_59 rfl ?_
          refine JW.iload dX3_evening_215 rfl ?_
          refine JW.mald 14 (x := (f14 (i32 (i64 (Int.tmod (i64 (Int.tdiv (i64 (Int.tmod (i64 ((i64 (1103515245 * x4)) + 12345)) 2147483648)) 65536)) (s.2 6 2)))))) dX3_evening_217 (Nat.le_of_ble_eq_true rfl) rfl o_6.1 o_6.2 rfl ?_
          refine JW.goto (tgt := 223) dX3_evening_218 rfl ?_
          refine JW.istore (ls' := [(0, vR 351), (2, vI x2), (3, vI x3), (4, vL (i64 (Int.tmod (i64 ((i64 (1103515245 * x4)) + 12345)) 2147483648))), (6, vI (i32 (x6 + 1))), (7, vI (f14 (i32 (i64 (Int.tmod (i64 (Int.tdiv (i64 (Int.tmod (i64 ((i64 (1103515245 * x4)) + 12345)) 2147483648)) 65536)) (s.2 6 2)))))), (8, vI x8), (9, vI x9), (10, vI x10), (11, vI (i32 (i64 (Int.tmod (i64 (Int.tdiv (i64 (Int.tmod (i64 ((i64 (1103515245 * x4)) + 12345)) 2147483648)) 65536)) (s.2 6 2)))))]) dX3_evening_223 (Nat.le_of_ble_eq_true rfl) rfl ?_
          refine JW.iload dX3_evening_225 rfl ?_
          refine JW.aload_n dX3_evening_227 rfl ?_
          refine JW.mget (v := vR 367) dX3_evening_228 fX3_62 rfl ?_
          refine JW.iload dX3_evening_231 rfl ?_
          refine JW.mald 15 (x := (f15 (i32 (i64 (Int.tmod (i64 (Int.tdiv (i64 (Int.tmod (i64 ((i64 (1103515245 * x4)) + 12345)) 2147483648)) 65536)) (s.2 6 2)))))) dX3_evening_233 (Nat.le_of_ble_eq_true rfl) rfl o_6.1 o_6.2 rfl ?_
          refine JW.iload dX3_evening_234 rfl ?_
          refine JW.icmp_ne (tgt := 243) dX3_evening_236 rfl (fun c_14 => ?_) (fun c_14 => ?_)
          · have K := K.1 c_14
            refine JW.iconst dX3_evening_243 rfl ?_
            refine JW.iadd dX3_evening_244 ?_
            refine JW.istore (ls' := [(0, vR 351), (2, vI x2), (3, vI x3), (4, vL (i64 (Int.tmod (i64 ((i64 (1103515245 * x4)) + 12345)) 2147483648))), (6, vI (i32 (x6 + 1))), (7, vI (f14 (i32 (i64 (Int.tmod (i64 (Int.tdiv (i64 (Int.tmod (i64 ((i64 (1103515245 * x4)) + 12345)) 2147483648)) 65536)) (s.2 6 2)))))), (8, vI x8), (9, vI (i32 (x9 + 0))), (10, vI x10), (11, vI (i32 (i64 (Int.tmod (i64 (Int.tdiv (i64 (Int.tmod (i64 ((i64 (1103515245 * x4)) + 12345)) 2147483648)) 65536)) (s.2 6 2)))))]) dX3_evening_245 (Nat.le_of_ble_eq_true rfl) rfl ?_
            refine JW.iinc (ls' := [(0, vR 351), (2, vI x2), (3, vI x3), (4, vL (i64 (Int.tmod (i64 ((i64 (1103515245 * x4)) + 12345)) 2147483648))), (6, vI (i32 (x6 + 1))), (7, vI (f14 (i32 (i64 (Int.tmod (i64 (Int.tdiv (i64 (Int.tmod (i64 ((i64 (1103515245 * x4)) + 12345)) 2147483648)) 65536)) (s.2 6 2)))))), (8, vI x8), (9, vI (i32 (x9 + 0))), (10, vI (i32 (x10 + 1))), (11, vI (i32 (i64 (Int.tmod (i64 (Int.tdiv (i64 (Int.tmod (i64 ((i64 (1103515245 * x4)) + 12345)) 2147483648)) 65536)) (s.2 6 2)))))]) dX3_evening_247 (Nat.le_of_ble_eq_true rfl) rfl rfl ?_
            refine JW.goto (tgt := 102) dX3_evening_250 rfl ?_
            exact JW.pick [0, 2, 3, 4, 6, 7, 8, 9, 10] rfl K
          · have K := K.2 c_14
            refine JW.iconst dX3_evening_239 rfl ?_
            refine JW.goto (tgt := 244) dX3_evening_240 rfl ?_
            refine JW.iadd dX3_evening_244 ?_
            refine JW.istore (ls' := [(0, vR 351), (2, vI x2), (3, vI x3), (4, vL (i64 (Int.tmod (i64 ((i64 (1103515245 * x4)) + 12345)) 2147483648))), (6, vI (i32 (x6 + 1))), (7, vI (f14 (i32 (i64 (Int.tmod (i64 (Int.tdiv (i64 (Int.tmod (i64 ((i64 (1103515245 * x4)) + 12345)) 2147483648)) 65536)) (s.2 6 2)))))), (8, vI x8), (9, vI (i32 (x9 + 1))), (10, vI x10), (11, vI (i32 (i64 (Int.tmod (i64 (Int.tdiv (i64 (Int.tmod (i64 ((i64 (1103515245 * x4)) + 12345)) 2147483648)) 65536)) (s.2 6 2)))))]) dX3_evening_245 (Nat.le_of_ble_eq_true rfl) rfl ?_
            refine JW.iinc (ls' := [(0, vR 351), (2, vI x2), (3, vI x3), (4, vL (i64 (Int.tmod (i64 ((i64 (1103515245 * x4)) + 12345)) 2147483648))), (6, vI (i32 (x6 + 1))), (7, vI (f14 (i32 (i64 (Int.tmod (i64 (Int.tdiv (i64 (Int.tmod (i64 ((i64 (1103515245 * x4)) + 12345)) 2147483648)) 65536)) (s.2 6 2)))))), (8, vI x8), (9, vI (i32 (x9 + 1))), (10, vI (i32 (x10 + 1))), (11, vI (i32 (i64 (Int.tmod (i64 (Int.tdiv (i64 (Int.tmod (i64 ((i64 (1103515245 * x4)) + 12345)) 2147483648)) 65536)) (s.2 6 2)))))]) dX3_evening_247 (Nat.le_of_ble_eq_true rfl) rfl rfl ?_
            refine JW.goto (tgt := 102) dX3_evening_250 rfl ?_
            exact JW.pick [0, 2, 3, 4, 6, 7, 8, 9, 10] rfl K
    · have K := K.2 c_5
      refine JW.aload_n dX3_evening_147 rfl ?_
      refine JW.mget (v := vR 367) dX3_evening_148 fX3_62 rfl ?_
      refine JW.iload dX3_evening_151 rfl ?_
      obtain ⟨o_15, K⟩ := K
      refine JW.mald 15 (x := (f15 (i32 (i64 (Int.tmod (i64 (Int.tdiv (i64 (Int.tmod (i64 ((i64 (1103515245 * x4)) + 12345)) 2147483648)) 65536)) (s.2 6 2)))))) dX3_evening_153 (Nat.le_of_ble_eq_true rfl) rfl o_15.1 o_15.2 rfl ?_
      refine JW.goto (tgt := 159) dX3_evening_154 rfl ?_
      refine JW.istore (ls' := [(0, vR 351), (2, vI x2), (3, vI x3), (4, vL (i64 (Int.tmod (i64 ((i64 (1103515245 * x4)) + 12345)) 2147483648))), (6, vI x6), (7, vI x7), (8, vI (f15 (i32 (i64 (Int.tmod (i64 (Int.tdiv (i64 (Int.tmod (i64 ((i64 (1103515245 * x4)) + 12345)) 2147483648)) 65536)) (s.2 6 2)))))), (9, vI x9), (10, vI x10), (11, vI (i32 (i64 (Int.tmod (i64 (Int.tdiv (i64 (Int.tmod (i64 ((i64 (1103515245 * x4)) + 12345)) 2147483648)) 65536)) (s.2 6 2)))))]) dX3_evening_159 (Nat.le_of_ble_eq_true rfl) rfl ?_
      refine JW.iload dX3_evening_161 rfl ?_
      refine JW.aload_n dX3_evening_163 rfl ?_
      refine JW.mget (v := vR 369) dX3_evening_164 fX3_68 rfl ?_
      refine JW.aload_n dX3_evening_167 rfl ?_
      refine JW.mget (v := vR 367) dX3_evening_168 fX3_62 rfl ?_
      refine JW.iload dX3_evening_171 rfl ?_
      refine JW.mald 15 (x := (f15 (i32 (i64 (Int.tmod (i64 (Int.tdiv (i64 (Int.tmod (i64 ((i64 (1103515245 * x4)) + 12345)) 2147483648)) 65536)) (s.2 6 2)))))) dX3_evening_173 (Nat.le_of_ble_eq_true rfl) rfl o_15.1 o_15.2 rfl ?_
      obtain ⟨o_16, K⟩ := K
      refine JW.mald 17 (x := (f17 (f15 (i32 (i64 (Int.tmod (i64 (Int.tdiv (i64 (Int.tmod (i64 ((i64 (1103515245 * x4)) + 12345)) 2147483648)) 65536)) (s.2 6 2))))))) dX3_evening_174 (Nat.le_of_ble_eq_true rfl) rfl o_16.1 o_16.2 rfl ?_
      refine JW.if_ne (tgt := 182) dX3_evening_175 rfl (fun c_17 => ?_) (fun c_17 => ?_)
      · have K := K.1 c_17
        refine JW.iconst dX3_evening_182 rfl ?_
        refine JW.iadd dX3_evening_183 ?_
        refine JW.istore (ls' := [(0, vR 351), (2, vI x2), (3, vI x3), (4, vL (i64 (Int.tmod (i64 ((i64 (1103515245 * x4)) + 12345)) 2147483648))), (6, vI (i32 (x6 + 0))), (7, vI x7), (8, vI (f15 (i32 (i64 (Int.tmod (i64 (Int.tdiv (i64 (Int.tmod (i64 ((i64 (1103515245 * x4)) + 12345)) 2147483648)) 65536)) (s.2 6 2)))))), (9, vI x9), (10, vI x10), (11, vI (i32 (i64 (Int.tmod (i64 (Int.tdiv (i64 (Int.tmod (i64 ((i64 (1103515245 * x4)) + 12345)) 2147483648)) 65536)) (s.2 6 2)))))]) dX3_evening_184 (Nat.le_of_ble_eq_true rfl) rfl ?_
        refine JW.aload_n dX3_evening_186 rfl ?_
        refine JW.mget (v := vR 369) dX3_evening_187 fX3_68 rfl ?_
        refine JW.aload_n dX3_evening_190 rfl ?_
        refine JW.mget (v := vR 367) dX3_evening_191 fX3_62 rfl ?_
        refine JW.iload dX3_evening_194 rfl ?_
        refine JW.mald 15 (x := (f15 (i32 (i64 (Int.tmod (i64 (Int.tdiv (i64 (Int.tmod (i64 ((i64 (1103515245 * x4)) + 12345)) 2147483648)) 65536)) (s.2 6 2)))))) dX3_evening_196 (Nat.le_of_ble_eq_true rfl) rfl o_15.1 o_15.2 rfl ?_
        refine JW.iconst dX3_evening_197 rfl ?_
        refine JW.mast 17 (f := f17) dX3_evening_198 (Nat.le_of_ble_eq_true rfl) rfl o_16.1 o_16.2 rfl ?_
        refine JW.steq (s2 := sS (sS (sS (sS (sA (sA (sA (sA (sA (sA (sA (sA (sA s 11 f11) 12 f12) 13 f13) 14 f14) 15 f15) 16 f16) 17 (upI f17 (f15 (i32 (i64 (Int.tmod (i64 (Int.tdiv (i64 (Int.tmod (i64 ((i64 (1103515245 * x4)) + 12345)) 2147483648)) 65536)) (s.2 6 2))))) 1)) 18 f18) 19 f19) 0 k0) 25 k25) 33 k33) 34 k34) (by simp only [sA_A, sS_S, sA_S, sA_lt, sS_lt, Nat.reduceLT, id_eq] <;> rfl) ?_
        refine JW.aload_n dX3_evening_199 rfl ?_
        refine JW.mget (v := vR 366) dX3_evening_200 fX3_59 rfl ?_
        refine JW.iload dX3_evening_203 rfl ?_
        refine JW.mald 14 (x := (f14 (i32 (i64 (Int.tmod (i64 (Int.tdiv (i64 (Int.tmod (i64 ((i64 (1103515245 * x4)) + 12345)) 2147483648)) 65536)) (s.2 6 2)))))) dX3_evening_205 (Nat.le_of_ble_eq_true rfl) rfl o_15.1 o_15.2 rfl ?_
        refine JW.iload dX3_evening_206 rfl ?_
        refine JW.icmp_le (tgt := 221) dX3_evening_208 rfl (fun c_18 => ?_) (fun c_18 => ?_)
        · have K := K.1 c_18
          refine JW.iload dX3_evening_221 rfl ?_
          refine JW.istore (ls' := [(0, vR 351), (2, vI x2), (3, vI x3), (4, vL (i64 (Int.tmod (i64 ((i64 (1103515245 * x4)) + 12345)) 2147483648))), (6, vI (i32 (x6 + 0))), (7, vI x7), (8, vI (f15 (i32 (i64 (Int.tmod (i64 (Int.tdiv (i64 (Int.tmod (i64 ((i64 (1103515245 * x4)) + 12345)) 2147483648)) 65536)) (s.2 6 2)))))), (9, vI x9), (10, vI x10), (11, vI (i32 (i64 (Int.tmod (i64 (Int.tdiv (i64 (Int.tmod (i64 ((i64 (1103515245 * x4)) + 12345)) 2147483648)) 65536)) (s.2 6 2)))))]) dX3_evening_223 (Nat.le_of_ble_eq_true rfl) rfl ?_
          refine JW.iload dX3_evening_225 rfl ?_
          refine JW.aload_n dX3_evening_227 rfl ?_
          refine JW.mget (v := vR 367) dX3_evening_228 fX3_62 rfl ?_
          refine JW.iload dX3_evening_231 rfl ?_
          refine JW.mald 15 (x := (f15 (i32 (i64 (Int.tmod (i64 (Int.tdiv (i64 (Int.tmod (i64 ((i64 (1103515245 * x4)) + 12345)) 2147483648)) 65536)) (s.2 6 2)))))) dX3_evening_233 (Nat.le_of_ble_eq_true rfl) rfl o_15.1 o_15.2 rfl ?_
          refine JW.iload dX3_evening_234 rfl ?_
          refine JW.icmp_ne (tgt := 243) dX3_evening_236 rfl (fun c_19 => ?_) (fun c_19 => ?_)
          · have K := K.1 c_19
            refine JW.iconst dX3_evening_243 rfl ?_
            refine JW.iadd dX3_evening_244 ?_
            refine JW.istore (ls' := [(0, vR 351), (2, vI x2), (3, vI x3), (4, vL (i64 (Int.tmod (i64 ((i64 (1103515245 * x4)) + 12345)) 2147483648))), (6, vI (i32 (x6 + 0))), (7, vI x7), (8, vI (f15 (i32 (i64 (Int.tmod (i64 (Int.tdiv (i64 (Int.tmod (i64 ((i64 (1103515245 * x4)) + 12345)) 2147483648)) 65536)) (s.2 6 2)))))), (9, vI (i32 (x9 + 0))), (10, vI x10), (11, vI (i32 (i64 (Int.tmod (i64 (Int.tdiv (i64 (Int.tmod (i64 ((i64 (1103515245 * x4)) + 12345)) 2147483648)) 65536)) (s.2 6 2)))))]) dX3_evening_245 (Nat.le_of_ble_eq_true rfl) rfl ?_
            refine JW.iinc (ls' := [(0, vR 351), (2, vI x2), (3, vI x3), (4, vL (i64 (Int.tmod (i64 ((i64 (1103515245 * x4)) + 12345)) 2147483648))), (6, vI (i32 (x6 + 0))), (7, vI x7), (8, vI (f15 (i32 (i64 (Int.tmod (i64 (Int.tdiv (i64 (Int.tmod (i64 ((i64 (1103515245 * x4)) + 12345)) 2147483648)) 65536)) (s.2 6 2)))))), (9, vI (i32 (x9 + 0))), (10, vI (i32 (x10 + 1))), (11, vI (i32 (i64 (Int.tmod (i64 (Int.tdiv (i64 (Int.tmod (i64 ((i64 (1103515245 * x4)) + 12345)) 2147483648)) 65536)) (s.2 6 2)))))]) dX3_evening_247 (Nat.le_of_ble_eq_true rfl) rfl rfl ?_
            refine JW.goto (tgt := 102) dX3_evening_250 rfl ?_
            exact JW.pick [0, 2, 3, 4, 6, 7, 8, 9, 10] rfl K
          · have K := K.2 c_19
            refine JW.iconst dX3_evening_239 rfl ?_
            refine JW.goto (tgt := 244) dX3_evening_240 rfl ?_
            refine JW.iadd dX3_evening_244 ?_
            refine JW.istore (ls' := [(0, vR 351), (2, vI x2), (3, vI x3), (4, vL (i64 (Int.tmod (i64 ((i64 (1103515245 * x4)) + 12345)) 2147483648))), (6, vI (i32 (x6 + 0))), (7, vI x7), (8, vI (f15 (i32 (i64 (Int.tmod (i64 (Int.tdiv (i64 (Int.tmod (i64 ((i64 (1103515245 * x4)) + 12345)) 2147483648)) 65536)) (s.2 6 2)))))), (9, vI (i32 (x9 + 1))), (10, vI x10), (11, vI (i32 (i64 (Int.tmod (i64 (Int.tdiv (i64 (Int.tmod (i64 ((i64 (1103515245 * x4)) + 12345)) 2147483648)) 65536)) (s.2 6 2)))))]) dX3_evening_245 (Nat.le_of_ble_eq_true rfl) rfl ?_
            refine JW.iinc (ls' := [(0, vR 351), (2, vI x2), (3, vI x3), (4, vL (i64 (Int.tmod (i64 ((i64 (1103515245 * x4)) + 12345)) 2147483648))), (6, vI (i32 (x6 + 0))), (7, vI x7), (8, vI (f15 (i32 (i64 (Int.tmod (i64 (Int.tdiv (i64 (Int.tmod (i64 ((i64 (1103515245 * x4)) + 12345)) 2147483648)) 65536)) (s.2 6 2)))))), (9, vI (i32 (x9 + 1))), (10, vI (i32 (x10 + 1))), (11, vI (i32 (i64 (Int.tmod (i64 (Int.tdiv (i64 (Int.tmod (i64 ((i64 (1103515245 * x4)) + 12345)) 2147483648)) 65536)) (s.2 6 2)))))]) dX3_evening_247 (Nat.le_of_ble_eq_true rfl) rfl rfl ?_
            refine JW.goto (tgt := 102) dX3_evening_250 rfl ?_
            exact JW.pick [0, 2, 3, 4, 6, 7, 8, 9, 10] rfl K
        · have K := K.2 c_18
          refine JW.aload_n dX3_evening_211 rfl ?_
          refine JW.mget (v := vR 366) dX3_evening_212 fX3_59 rfl ?_
          refine JW.iload dX3_evening_215 rfl ?_
          refine JW.mald 14 (x := (f14 (i32 (i64 (Int.tmod (i64 (Int.tdiv (i64 (Int.tmod (i64 ((i64 (1103515245 * x4)) + 12345)) 2147483648)) 65536)) (s.2 6 2)))))) dX3_evening_217 (Nat.le_of_ble_eq_true rfl) rfl o_15.1 o_15.2 rfl ?_
          refine JW.goto (tgt := 223) dX3_evening_218 rfl ?_
          refine JW.istore (ls' := [(0, vR 351), (2, vI x2), (3, vI x3), (4, vL (i64 (Int.tmod (i64 ((i64 (1103515245 * x4)) + 12345)) 2147483648))), (6, vI (i32 (x6 + 0))), (7, vI (f14 (i32 (i64 (Int.tmod (i64 (Int.tdiv (i64 (Int.tmod (i64 ((i64 (1103515245 * x4)) + 12345)) 2147483648)) 65536)) (s.2 6 2)))))), (8, vI (f15 (i32 (i64 (Int.tmod (i64 (Int.tdiv (i64 (Int.tmod (i64 ((i64 (1103515245 * x4)) + 12345)) 2147483648)) 65536)) (s.2 6 2)))))), (9, vI x9), (10, vI x10), (11, vI (i32 (i64 (Int.tmod (i64 (Int.tdiv (i64 (Int.tmod (i64 ((i64 (1103515245 * x4)) + 12345)) 2147483648)) 65536)) (s.2 6 2)))))]) dX3_evening_223 (Nat.le_of_ble_eq_true rfl) rfl ?_
          refine JW.iload dX3_evening_225 rfl ?_
          refine JW.aload_n dX3_evening_227 rfl ?_
          refine JW.mget (v := vR 367) dX3_evening_228 fX3_62 rfl ?_
          refine JW.iload dX3_evening_231 rfl ?_
          refine JW.mald 15 (x := (f15 (i32 (i64 (Int.tmod (i64 (Int.tdiv (i64 (Int.tmod (i64 ((i64 (1103515245 * x4)) + 12345)) 2147483648)) 65536)) (s.2 6 2)))))) dX3_evening_233 (Nat.le_of_ble_eq_true rfl) rfl o_15.1 o_15.2 rfl ?_
          refine JW.iload dX3_evening_234 rfl ?_
          refine JW.icmp_ne (tgt := 243) dX3_evening_236 rfl (fun c_20 => ?_) (fun c_20 => ?_)
          · have K := K.1 c_20
            refine JW.iconst dX3_evening_243 rfl ?_
            refine JW.iadd dX3_evening_244 ?_
            refine JW.istore (ls' := [(0, vR 351), (2, vI x2), (3, vI x3), (4, vL (i64 (Int.tmod (i64 ((i64 (1103515245 * x4)) + 12345)) 2147483648))), (6, vI (i32 (x6 + 0))), (7, vI (f14 (i32 (i64 (Int.tmod (i64 (Int.tdiv (i64 (Int.tmod (i64 ((i64 (1103515245 * x4)) + 12345)) 2147483648)) 65536)) (s.2 6 2)))))), (8, vI (f15 (i32 (i64 (Int.tmod (i64 (Int.tdiv (i64 (Int.tmod (i64 ((i64 (1103515245 * x4)) + 12345)) 2147483648)) 65536)) (s.2 6 2)))))), (9, vI (i32 (x9 + 0))), (10, vI x10), (11, vI (i32 (i64 (Int.tmod (i64 (Int.tdiv (i64 (Int.tmod (i64 ((i64 (1103515245 * x4)) + 12345)) 2147483648)) 65536)) (s.2 6 2)))))]) dX3_evening_245 (Nat.le_of_ble_eq_true rfl) rfl ?_
            refine JW.iinc (ls' := [(0, vR 351), (2, vI x2), (3, vI x3), (4, vL (i64 (Int.tmod (i64 ((i64 (1103515245 * x4)) + 12345)) 2147483648))), (6, vI (i32 (x6 + 0))), (7, vI (f14 (i32 (i64 (Int.tmod (i64 (Int.tdiv (i64 (Int.tmod (i64 ((i64 (1103515245 * x4)) + 12345)) 2147483648)) 65536)) (s.2 6 2)))))), (8, vI (f15 (i32 (i64 (Int.tmod (i64 (Int.tdiv (i64 (Int.tmod (i64 ((i64 (1103515245 * x4)) + 12345)) 2147483648)) 65536)) (s.2 6 2)))))), (9, vI (i32 (x9 + 0))), (10, vI (i32 (x10 + 1))), (11, vI (i32 (i64 (Int.tmod (i64 (Int.tdiv (i64 (Int.tmod (i64 ((i64 (1103515245 * x4)) + 12345)) 2147483648)) 65536)) (s.2 6 2)))))]) dX3_evening_247 (Nat.le_of_ble_eq_true rfl) rfl rfl ?_
            refine JW.goto (tgt := 102) dX3_evening_250 rfl ?_
            exact JW.pick [0, 2, 3, 4, 6, 7, 8, 9, 10] rfl K
          · have K := K.2 c_20
            refine JW.iconst dX3_evening_239 rfl ?_
            refine JW.goto (tgt := 244) dX3_evening_240 rfl ?_
            refine JW.iadd dX3_evening_244 ?_
            refine JW.istore (ls' := [(0, vR 351), (2, vI x2), (3, vI x3), (4, vL (i64 (Int.tmod (i64 ((i64 (1103515245 * x4)) + 12345)) 2147483648))), (6, vI (i32 (x6 + 0))), (7, vI (f14 (i32 (i64 (Int.tmod (i64 (Int.tdiv (i64 (Int.tmod (i64 ((i64 (1103515245 * x4)) + 12345)) 2147483648)) 65536)) (s.2 6 2)))))), (8, vI (f15 (i32 (i64 (Int.tmod (i64 (Int.tdiv (i64 (Int.tmod (i64 ((i64 (1103515245 * x4)) + 12345)) 2147483648)) 65536)) (s.2 6 2)))))), (9, vI (i32 (x9 + 1))), (10, vI x10), (11, vI (i32 (i64 (Int.tmod (i64 (Int.tdiv (i64 (Int.tmod (i64 ((i64 (1103515245 * x4)) + 12345)) 2147483648)) 65536)) (s.2 6 2)))))]) dX3_evening_245 (Nat.le_of_ble_eq_true rfl) rfl ?_
            refine JW.iinc (ls' := [(0, vR 351), (2, vI x2), (3, vI x3), (4, vL (i64 (Int.tmod (i64 ((i64 (1103515245 * x4)) + 12345)) 2147483648))), (6, vI (i32 (x6 + 0))), (7, vI (f14 (i32 (i64 (Int.tmod (i64 (Int.tdiv (i64 (Int.tmod (i64 ((i64 (1103515245 * x4)) + 12345)) 2147483648)) 65536)) (s.2 6 2)))))), (8, vI (f15 (i32 (i64 (Int.tmod (i64 (Int.tdiv (i64 (Int.tmod (i64 ((i64 (1103515245 * x4)) + 12345)) 2147483648)) 65536)) (s.2 6 2)))))), (9, vI (i32 (x9 + 1))), (10, vI (i32 (x10 + 1))), (11, vI (i32 (i64 (Int.tmod (i64 (Int.tdiv (i64 (Int.tmod (i64 ((i64 (1103515245 * x4)) + 12345)) 2147483648)) 65536)) (s.2 6 2)))))]) dX3_evening_247 (Nat.le_of_ble_eq_true rfl) rfl rfl ?_
            refine JW.goto (tgt := 102) dX3_evening_250 rfl ?_
            exact JW.pick [0, 2, 3, 4, 6, 7, 8, 9, 10] rfl K
      · have K := K.2 c_17
        refine JW.iconst dX3_evening_178 rfl ?_
        refine JW.goto (tgt := 183) dX3_evening_179 rfl ?_
        refine JW.iadd dX3_evening_183 ?_
        refine JW.istore (ls' := [(0, vR 351), (2, vI x2), (3, vI x3), (4, vL (i64 (Int.tmod (i64 ((i64 (1103515245 * x4)) + 12345)) 2147483648))), (6, vI (i32 (x6 + 1))), (7, vI x7), (8, vI (f15 (i32 (i64 (Int.tmod (i64 (Int.tdiv (i64 (Int.tmod (i64 ((i64 (1103515245 * x4)) + 12345)) 2147483648)) 65536)) (s.2 6 2)))))), (9, vI x9), (10, vI x10), (11, vI (i32 (i64 (Int.tmod (i64 (Int.tdiv (i64 (Int.tmod (i64 ((i64 (1103515245 * x4)) + 12345)) 2147483648)) 65536)) (s.2 6 2)))))]) dX3_evening_184 (Nat.le_of_ble_eq_true rfl) rfl ?_
        refine JW.aload_n dX3_evening_186 rfl ?_
        refine JW.mget (v := vR 369) dX3_evening_187 fX3_68 rfl ?_
        refine JW.aload_n dX3_evening_190 rfl ?_
        refine JW.mget (v := vR 367) dX3_evening_191 fX3_62 rfl ?_
        refine JW.iload dX3_evening_194 rfl ?_
        refine JW.mald 15 (x := (f15 (i32 (i64 (Int.tmod (i64 (Int.tdiv (i64 (Int.tmod (i64 ((i64 (1103515245 * x4)) + 12345)) 2147483648)) 65536)) (s.2 6 2)))))) dX3_evening_196 (Nat.le_of_ble_eq_true rfl) rfl o_15.1 o_15.2 rfl ?_
        refine JW.iconst dX3_evening_197 rfl ?_
        refine JW.mast 17 (f := f17) dX3_evening_198 (Nat.le_of_ble_eq_true rfl) rfl o_16.1 o_16.2 rfl ?_
        refine JW.steq (s2 := sS (sS (sS (sS (sA (sA (sA (sA (sA (sA (sA (sA (sA s 11 f11) 12 f12) 13 f13) 14 f14) 15 f15) 16 f16) 17 (upI f17 (f15 (i32 (i64 (Int.tmod (i64 (Int.tdiv (i64 (Int.tmod (i64 ((i64 (1103515245 * x4)) + 12345)) 2147483648)) 65536)) (s.2 6 2))))) 1)) 18 f18) 19 f19) 0 k0) 25 k25) 33 k33) 34 k34) (by simp only [sA_A, sS_S, sA_S, sA_lt, sS_lt, Nat.reduceLT, id_eq] <;> rfl) ?_
        refine JW.aload_n dX3_evening_199 rfl ?_
        refine JW.mget (v := vR 366) dX3_evening_200 fX3_59 rfl ?_
        refine JW.iload dX3_evening_203 rfl ?_
        refine JW.mald 14 (x := (f14 (i32 (i64 (Int.tmod (i64 (Int.tdiv (i64 (Int.tmod (i64 ((i64 (1103515245 * x4)) + 12345)) 2147483648)) 65536)) (s.2 6 2)))))) dX3_evening_205 (Nat.le_of_ble_eq_true rfl) rfl o_15.1 o_15.2 rfl ?_
        refine JW.iload dX3_evening_206 rfl ?_
        refine JW.icmp_le (tgt := 221) dX3_evening_208 rfl (fun c_21 => ?_) (fun c_21 => ?_)
        · have K := K.1 c_21
          refine JW.iload dX3_evening_221 rfl ?_
          refine JW.istore (ls' := [(0, vR 351), (2, vI x2), (3, vI x3), (4, vL (i64 (Int.tmod (i64 ((i64 (1103515245 * x4)) + 12345)) 2147483648))), (6, vI (i32 (x6 + 1))), (7, vI x7), (8, vI (f15 (i32 (i64 (Int.tmod (i64 (Int.tdiv (i64 (Int.tmod (i64 ((i64 (1103515245 * x4)) + 12345)) 2147483648)) 65536)) (s.2 6 2)))))), (9, vI x9), (10, vI x10), (11, vI (i32 (i64 (Int.tmod (i64 (Int.tdiv (i64 (Int.tmod (i64 ((i64 (1103515245 * x4)) + 12345)) 2147483648)) 65536)) (s.2 6 2)))))]) dX3_evening_223 (Nat.le_of_ble_eq_true rfl) rfl ?_
          refine JW.iload dX3_evening_225 rfl ?_
          refine JW.aload_n dX3_evening_227 rfl ?_
          refine JW.mget (v := vR 367) dX3_evening_228 fX3_62 rfl ?_
          refine JW.iload dX3_evening_231 rfl ?_
          refine JW.mald 15 (x := (f15 (i32 (i64 (Int.tmod (i64 (Int.tdiv (i64 (Int.tmod (i64 ((i64 (1103515245 * x4)) + 12345)) 2147483648)) 65536)) (s.2 6 2)))))) dX3_evening_233 (Nat.le_of_ble_eq_true rfl) rfl o_15.1 o_15.2 rfl ?_
          refine JW.iload dX3_evening_234 rfl ?_
          refine JW.icmp_ne (tgt := 243) dX3_evening_236 rfl (fun c_22 => ?_) (fun c_22 => ?_)
          · have K := K.1 c_22
            refine JW.iconst dX3_evening_243 rfl ?_
            refine JW.iadd dX3_evening_244 ?_
            refine JW.istore (ls' := [(0, vR 351), (2, vI x2), (3, vI x3), (4, vL (i64 (Int.tmod (i64 ((i64 (1103515245 * x4)) + 12345)) 2147483648))), (6, vI (i32 (x6 + 1))), (7, vI x7), (8, vI (f15 (i32 (i64 (Int.tmod (i64 (Int.tdiv (i64 (Int.tmod (i64 ((i64 (1103515245 * x4)) + 12345)) 2147483648)) 65536)) (s.2 6 2)))))), (9, vI (i32 (x9 + 0))), (10, vI x10), (11, vI (i32 (i64 (Int.tmod (i64 (Int.tdiv (i64 (Int.tmod (i64 ((i64 (1103515245 * x4)) + 12345)) 2147483648)) 65536)) (s.2 6 2)))))]) dX3_evening_245 (Nat.le_of_ble_eq_true rfl) rfl ?_
            refine JW.iinc (ls' := [(0, vR 351), (2, vI x2), (3, vI x3), (4, vL (i64 (Int.tmod (i64 ((i64 (1103515245 * x4)) + 12345)) 2147483648))), (6, vI (i32 (x6 + 1))), (7, vI x7), (8, vI (f15 (i32 (i64 (Int.tmod (i64 (Int.tdiv (i64 (Int.tmod (i64 ((i64 (1103515245 * x4)) + 12345)) 2147483648)) 65536)) (s.2 6 2)))))), (9, vI (i32 (x9 + 0))), (10, vI (i32 (x10 + 1))), (11, vI (i32 (i64 (Int.tmod (i64 (Int.tdiv (i64 (Int.tmod (i64 ((i64 (1103515245 * x4)) + 12345)) 2147483648)) 65536)) (s.2 6 2)))))]) dX3_evening_247 (Nat.le_of_ble_eq_true rfl) rfl rfl ?_
            refine JW.goto (tgt := 102) dX3_evening_250 rfl ?_
            exact JW.pick [0, 2, 3, 4, 6, 7, 8, 9, 10] rfl K
          · have K := K.2 c_22
            refine JW.iconst dX3_evening_239 rfl ?_
            refine JW.goto (tgt := 244) dX3_evening_240 rfl ?_
            refine JW.iadd dX3_evening_244 ?_
            refine JW.istore (ls' := [(0, vR 351), (2, vI x2), (3, vI x3), (4, vL (i64 (Int.tmod (i64 ((i64 (1103515245 * x4)) + 12345)) 2147483648))), (6, vI (i32 (x6 + 1))), (7, vI x7), (8, vI (f15 (i32 (i64 (Int.tmod (i64 (Int.tdiv (i64 (Int.tmod (i64 ((i64 (1103515245 * x4)) + 12345)) 2147483648)) 65536)) (s.2 6 2)))))), (9, vI (i32 (x9 + 1))), (10, vI x10), (11, vI (i32 (i64 (Int.tmod (i64 (Int.tdiv (i64 (Int.tmod (i64 ((i64 (1103515245 * x4)) + 12345)) 2147483648)) 65536)) (s.2 6 2)))))]) dX3_evening_245 (Nat.le_of_ble_eq_true rfl) rfl ?_
            refine JW.iinc (ls' := [(0, vR 351), (2, vI x2), (3, vI x3), (4, vL (i64 (Int.tmod (i64 ((i64 (1103515245 * x4)) + 12345)) 2147483648))), (6, vI (i32 (x6 + 1))), (7, vI x7), (8, vI (f15 (i32 (i64 (Int.tmod (i64 (Int.tdiv (i64 (Int.tmod (i64 ((i64 (1103515245 * x4)) + 12345)) 2147483648)) 65536)) (s.2 6 2)))))), (9, vI (i32 (x9 + 1))), (10, vI (i32 (x10 + 1))), (11, vI (i32 (i64 (Int.tmod (i64 (Int.tdiv (i64 (Int.tmod (i64 ((i64 (1103515245 * x4)) + 12345)) 2147483648)) 65536)) (s.2 6 2)))))]) dX3_evening_247 (Nat.le_of_ble_eq_true rfl) rfl rfl ?_
            refine JW.goto (tgt := 102) dX3_evening_250 rfl ?_
            exact JW.pick [0, 2, 3, 4, 6, 7, 8, 9, 10] rfl K
        · have K := K.2 c_21
          refine JW.aload_n dX3_evening_211 rfl ?_
          refine JW.mget (v := vR 366) dX3_evening_212 fX3_59 rfl ?_
          refine JW.iload dX3_evening_215 rfl ?_
          refine JW.mald 14 (x := (f14 (i32 (i64 (Int.tmod (i64 (Int.tdiv (i64 (Int.tmod (i64 ((i64 (1103515245 * x4)) + 12345)) 2147483648)) 65536)) (s.2 6 2)))))) dX3_evening_217 (Nat.le_of_ble_eq_true rfl) rfl o_15.1 o_15.2 rfl ?_
          refine JW.goto (tgt := 223) dX3_evening_218 rfl ?_
          refine JW.istore (ls' := [(0, vR 351), (2, vI x2), (3, vI x3), (4, vL (i64 (Int.tmod (i64 ((i64 (1103515245 * x4)) + 12345)) 2147483648))), (6, vI (i32 (x6 + 1))), (7, vI (f14 (i32 (i64 (Int.tmod (i64 (Int.tdiv (i64 (Int.tmod (i64 ((i64 (1103515245 * x4)) + 12345)) 2147483648)) 65536)) (s.2 6 2)))))), (8, vI (f15 (i32 (i64 (Int.tmod (i64 (Int.tdiv (i64 (Int.tmod (i64 ((i64 (1103515245 * x4)) + 12345)) 2147483648)) 65536)) (s.2 6 2)))))), (9, vI x9), (10, vI x10), (11, vI (i32 (i64 (Int.tmod (i64 (Int.tdiv (i64 (Int.tmod (i64 ((i64 (1103515245 * x4)) + 12345)) 2147483648)) 65536)) (s.2 6 2)))))]) dX3_evening_223 (Nat.le_of_ble_eq_true rfl) rfl ?_
          refine JW.iload dX3_evening_225 rfl ?_
          refine JW.aload_n dX3_evening_227 rfl ?_
          refine JW.mget (v := vR 367) dX3_evening_228 fX3_62 rfl ?_
          refine JW.iload dX3_evening_231 rfl ?_
          refine JW.mald 15 (x := (f15 (i32 (i64 (Int.tmod (i64 (Int.tdiv (i64 (Int.tmod (i64 ((i64 (1103515245 * x4)) + 12345)) 2147483648)) 65536)) (s.2 6 2)))))) dX3_evening_233 (Nat.le_of_ble_eq_true rfl) rfl o_15.1 o_15.2 rfl ?_
          refine JW.iload dX3_evening_234 rfl ?_
          refine JW.icmp_ne (tgt := 243) dX3_evening_236 rfl (fun c_23 => ?_) (fun c_23 => ?_)
          · have K := K.1 c_23
            refine JW.iconst dX3_evening_243 rfl ?_
            refine JW.iadd dX3_evening_244 ?_
            refine JW.istore (ls' := [(0, vR 351), (2, vI x2), (3, vI x3), (4, vL (i64 (Int.tmod (i64 ((i64 (1103515245 * x4)) + 12345)) 2147483648))), (6, vI (i32 (x6 + 1))), (7, vI (f14 (i32 (i64 (Int.tmod (i64 (Int.tdiv (i64 (Int.tmod (i64 ((i64 (1103515245 * x4)) + 12345)) 2147483648)) 65536)) (s.2 6 2)))))), (8, vI (f15 (i32 (i64 (Int.tmod (i64 (Int.tdiv (i64 (Int.tmod (i64 ((i64 (1103515245 * x4)) + 12345)) 2147483648)) 65536)) (s.2 6 2)))))), (9, vI (i32 (x9 + 0))), (10, vI x10), (11, vI (i32 (i64 (Int.tmod (i64 (Int.tdiv (i64 (Int.tmod (i64 ((i64 (1103515245 * x4)) + 12345)) 2147483648)) 65536)) (s.2 6 2)))))]) dX3_evening_245 (Nat.le_of_ble_eq_true rfl) rfl ?_
            refine JW.iinc (ls' := [(0, vR 351), (2, vI x2), (3, vI x3), (4, vL (i64 (Int.tmod (i64 ((i64 (1103515245 * x4)) + 12345)) 2147483648))), (6, vI (i32 (x6 + 1))), (7, vI (f14 (i32 (i64 (Int.tmod (i64 (Int.tdiv (i64 (Int.tmod (i64 ((i64 (1103515245 * x4)) + 12345)) 2147483648)) 65536)) (s.2 6 2)))))), (8, vI (f15 (i32 (i64 (Int.tmod (i64 (Int.tdiv (i64 (Int.tmod (i64 ((i64 (1103515245 * x4)) + 12345)) 2147483648)) 65536)) (s.2 6 2)))))), (9, vI (i32 (x9 + 0))), (10, vI (i32 (x10 + 1))), (11, vI (i32 (i64 (Int.tmod (i64 (Int.tdiv (i64 (Int.tmod (i64 ((i64 (1103515245 * x4)) + 12345)) 2147483648)) 65536)) (s.2 6 2)))))]) dX3_evening_247 (Nat.le_of_ble_eq_true rfl) rfl rfl ?_
            refine JW.goto (tgt := 102) dX3_evening_250 rfl ?_
            exact JW.pick [0, 2, 3, 4, 6, 7, 8, 9, 10] rfl K
          · have K := K.2 c_23
            refine JW.iconst dX3_evening_239 rfl ?_
            refine JW.goto (tgt := 244) dX3_evening_240 rfl ?_
            refine JW.iadd dX3_evening_244 ?_
            refine JW.istore (ls' := [(0, vR 351), (2, vI x2), (3, vI x3), (4, vL (i64 (Int.tmod (i64 ((i64 (1103515245 * x4)) + 12345)) 2147483648))), (6, vI (i32 (x6 + 1))), (7, vI (f14 (i32 (i64 (Int.tmod (i64 (Int.tdiv (i64 (Int.tmod (i64 ((i64 (1103515245 * x4)) + 12345)) 2147483648)) 65536)) (s.2 6 2)))))), (8, vI (f15 (i32 (i64 (Int.tmod (i64 (Int.tdiv (i64 (Int.tmod (i64 ((i64 (1103515245 * x4)) + 12345)) 2147483648)) 65536)) (s.2 6 2)))))), (9, vI (i32 (x9 + 1))), (10, vI x10), (11, vI (i32 (i64 (Int.tmod (i64 (Int.tdiv (i64 (Int.tmod (i64 ((i64 (1103515245 * x4)) + 12345)) 2147483648)) 65536)) (s.2 6 2)))))]) dX3_evening_245 (Nat.le_of_ble_eq_true rfl) rfl ?_
            refine JW.iinc (ls' := [(0, vR 351), (2, vI x2), (3, vI x3), (4, vL (i64 (Int.tmod (i64 ((i64 (1103515245 * x4)) + 12345)) 2147483648))), (6, vI (i32 (x6 + 1))), (7, vI (f14 (i32 (i64 (Int.tmod (i64 (Int.tdiv (i64 (Int.tmod (i64 ((i64 (1103515245 * x4)) + 12345)) 2147483648)) 65536)) (s.2 6 2)))))), (8, vI (f15 (i32 (i64 (Int.tmod (i64 (Int.tdiv (i64 (Int.tmod (i64 ((i64 (1103515245 * x4)) + 12345)) 2147483648)) 65536)) (s.2 6 2)))))), (9, vI (i32 (x9 + 1))), (10, vI (i32 (x10 + 1))), (11, vI (i32 (i64 (Int.tmod (i64 (Int.tdiv (i64 (Int.tmod (i64 ((i64 (1103515245 * x4)) + 12345)) 2147483648)) 65536)) (s.2 6 2)))))]) dX3_evening_247 (Nat.le_of_ble_eq_true rfl) rfl rfl ?_
            refine JW.goto (tgt := 102) dX3_evening_250 rfl ?_
            exact JW.pick [0, 2, 3, 4, 6, 7, 8, 9, 10] rfl K
def QX3_evening (s : MS) (a1 : Int) (a2 : Int) (a3 : Int) : Option AV → MS → Prop := fun v s' => ∃ (f11 : Int → Int) (f12 : Int → Int) (f13 : Int → Int) (f14 : Int → Int) (f15 : Int → Int) (f16 : Int → Int) (f17 : Int → Int) (f18 : Int → Int) (f19 : Int → Int) (k25 : Int) (k33 : Int) (k34 : Int), v = some (vI (rEvening ((s.2 5) 0) (s.2 6) (s.2 7) a1 a2 a3)) ∧ s' = sS (sS (sS (sS (sA (sA (sA (sA (sA (sA (sA (sA (sA s 11 f11) 12 f12) 13 f13) 14 f14) 15 f15) 16 f16) 17 f17) 18 f18) 19 f19) 0 (0)) 25 k25) 33 k33) 34 k34
theorem vX3_evening_1 (s : MS) (a1 : Int) (a2 : Int) (a3 : Int) (hp : tOK (s.2 6) ∧ aOK (s.2 6) (s.2 7) ∧ lOK ((s.2 5) 0) (s.2 6)) (x1 : Int) (x2 : Int) (x3 : Int) (x4 : Int) (f11 : Int → Int) (f12 : Int → Int) (f13 : Int → Int) (f14 : Int → Int) (f15 : Int → Int) (f16 : Int → Int) (f17 : Int → Int) (f18 : Int → Int) (f19 : Int → Int) (k0 : Int) (k25 : Int) (k33 : Int) (k34 : Int) (hI : k0 = 0 ∧ GO (s.2 6) (s.2 7) f13 f14 f15 f16 ∧ (x1 = a1 ∧ x2 = a2 ∧ x3 = a3 ∧ 0 < s.2 5 0 ∧ 0 ≤ a1 ∧ a1 ≤ 2000000000 ∧ 1 ≤ a2 ∧ a2 ≤ 100 ∧ 0 ≤ a3 ∧ a3 ≤ 2) ∧ (0 ≤ x4 ∧ x4 ≤ s.2 6 2) ∧ ∀ z : Int, 0 ≤ z → z < x4 → f17 z = 0) (c_1 : (s.2 6 2) ≤ x4) : k0 = 0 ∧ GO (s.2 6) (s.2 7) f13 f14 f15 f16 ∧ (x2 = a2 ∧ x3 = a3 ∧ 0 < s.2 5 0 ∧ 0 ≤ a1 ∧ a1 ≤ 2000000000 ∧ 1 ≤ a2 ∧ a2 ≤ 100 ∧ 0 ≤ a3 ∧ a3 ≤ 2) ∧ (0 ≤ (0 : Int) ∧ (0 : Int) ≤ a2) ∧ x1 = drw a1 (0 : Int).toNat ∧ MT (fun k => hm (nx (s.2 6) (s.2 7)) (drwI a1 (s.2 6 2) k)) f17 (s.2 6 2) (0 : Int) ∧ (0 : Int) = sumI (newK (fun k => hm (nx (s.2 6) (s.2 7)) (drwI a1 (s.2 6 2) k))) (0 : Int).toNat ∧ (0 : Int) = maxI 0 (fun k => tl (nx (s.2 6) (s.2 7)) (drwI a1 (s.2 6 2) k)) (0 : Int).toNat ∧ (((0 : Int) = 0 ∧ ((-1) : Int) = -1) ∨ (0 < (0 : Int) ∧ ((-1) : Int) = hm (nx (s.2 6) (s.2 7)) (drwI a1 (s.2 6 2) 0))) ∧ (0 : Int) = many (fun k => hm (nx (s.2 6) (s.2 7)) (drwI a1 (s.2 6 2) k) = hm (nx (s.2 6) (s.2 7)) (drwI a1 (s.2 6 2) 0)) (0 : Int).toNat := by
  obtain ⟨ht, ha, hl⟩ := hp
  have hN := tOK_N ht
  have hg := nx_rng (s.2 6) (s.2 7)
  (try simp only [bI_0, bI_n, Classical.not_not] at *)
  (try have hq := ‹GO (s.2 6) (s.2 7) _ _ _ _›)
  (try have hq := hI.2.1)
  (try have hx := GO_at hq (x := a1) (by omega) (by omega))
  (try have hN2 : 0 < s.2 6 2 := lOK_N ht hl (by omega))
  (try have hdb := drwI_b (sd := a1) (k := x10) hN2)
  (try have hd1 := drw_s (sd := a1) (by omega) (by omega) (by omega) hI.2.2.2.2.1)
  (try have hdi := drw_i (sd := a1) (N := s.2 6 2) (k := x10) (by omega) (by omega) hN2 (by omega) rfl)
  (try simp only [hd1, hdi] at *)
  (try have hy := GO_at hq hdb.1 hdb.2)
  (try (have y1 := hy.2.1.1; have y2 := hy.1.2.1; have y3 := hy.2.1.2; have y4 := hy.1.2.2))
  (try (clear hy; simp only [y1, y2] at *))
  (try have hs := sumI_s (newK (fun k => hm (nx (s.2 6) (s.2 7)) (drwI a1 (s.2 6 2) k))) (k := x10) (by omega))
  (try have hsb := sumI_b (f := newK (fun k => hm (nx (s.2 6) (s.2 7)) (drwI a1 (s.2 6 2) k))) x10.toNat (fun i _ _ => newK_01 _ _))
  (try have hn : (f17 (hm (nx (s.2 6) (s.2 7)) (drwI a1 (s.2 6 2) x10)) = 0 → newK (fun k => hm (nx (s.2 6) (s.2 7)) (drwI a1 (s.2 6 2) k)) x10 = 1) ∧ (¬ f17 (hm (nx (s.2 6) (s.2 7)) (drwI a1 (s.2 6 2) x10)) = 0 → newK (fun k => hm (nx (s.2 6) (s.2 7)) (drwI a1 (s.2 6 2) k)) x10 = 0) := MT_new hI.2.2.2.2.2.1 y3)
  (try have hm1 : maxI 0 (fun k => tl (nx (s.2 6) (s.2 7)) (drwI a1 (s.2 6 2) k)) x10.toNat < tl (nx (s.2 6) (s.2 7)) (drwI a1 (s.2 6 2) x10) → maxI 0 (fun k => tl (nx (s.2 6) (s.2 7)) (drwI a1 (s.2 6 2) k)) (x10 + 1).toNat = tl (nx (s.2 6) (s.2 7)) (drwI a1 (s.2 6 2) x10) := max_hit (by omega))
  (try have hm2 : ¬ maxI 0 (fun k => tl (nx (s.2 6) (s.2 7)) (drwI a1 (s.2 6 2) k)) x10.toNat < tl (nx (s.2 6) (s.2 7)) (drwI a1 (s.2 6 2) x10) → maxI 0 (fun k => tl (nx (s.2 6) (s.2 7)) (drwI a1 (s.2 6 2) k)) (x10 + 1).toNat = maxI 0 (fun k => tl (nx (s.2 6) (s.2 7)) (drwI a1 (s.2 6 2) k)) x10.toNat := max_not (by omega))
  (try have hb := many_b (fun k => hm (nx (s.2 6) (s.2 7)) (drwI a1 (s.2 6 2) k) = hm (nx (s.2 6) (s.2 7)) (drwI a1 (s.2 6 2) 0)) x10.toNat)
  (try have hS1 : hm (nx (s.2 6) (s.2 7)) (drwI a1 (s.2 6 2) x10) = hm (nx (s.2 6) (s.2 7)) (drwI a1 (s.2 6 2) 0) → many (fun k => hm (nx (s.2 6) (s.2 7)) (drwI a1 (s.2 6 2) k) = hm (nx (s.2 6) (s.2 7)) (drwI a1 (s.2 6 2) 0)) (x10 + 1).toNat = many (fun k => hm (nx (s.2 6) (s.2 7)) (drwI a1 (s.2 6 2) k) = hm (nx (s.2 6) (s.2 7)) (drwI a1 (s.2 6 2) 0)) x10.toNat + 1 := fun h => many_t (by omega) h)
  (try have hS2 : ¬ hm (nx (s.2 6) (s.2 7)) (drwI a1 (s.2 6 2) x10) = hm (nx (s.2 6) (s.2 7)) (drwI a1 (s.2 6 2) 0) → many (fun k => hm (nx (s.2 6) (s.2 7)) (drwI a1 (s.2 6 2) k) = hm (nx (s.2 6) (s.2 7)) (drwI a1 (s.2 6 2) 0)) (x10 + 1).toNat = many (fun k => hm (nx (s.2 6) (s.2 7)) (drwI a1 (s.2 6 2) k) = hm (nx (s.2 6) (s.2 7)) (drwI a1 (s.2 6 2) 0)) x10.toNat := fun h => many_f (by omega) h)
  (try have hz : x10 = 0 → hm (nx (s.2 6) (s.2 7)) (drwI a1 (s.2 6 2) x10) = hm (nx (s.2 6) (s.2 7)) (drwI a1 (s.2 6 2) 0) := fun h => by rw [h])
  (try have h00 := (hm_b hg (drwI_b (sd := a1) (k := 0) hN2).1 (drwI_b (sd := a1) (k := 0) hN2).2).1)
  (try have hzz := hI.2.2.2.2.2.2.2.2.1)
  (try unfold lex3)
  (try simp only [bI_0, bI_n, Classical.not_not] at *)
  (try simp (disch := omega) only [i32_id] at *)
  first | done | omega | ((repeat' (with_reducible apply And.intro)) <;> first | assumption | rfl | omega | (exact hI.1) | (exact hI.2.1) | (exact hq) | (unfold rEvening; rw [if_neg (by omega)]) | (exact hI.2.2.1.1) | (exact MT_0 (fun z a b => hI.2.2.2.2 z a (by omega))) | (exact Or.inl ⟨rfl, rfl⟩) | (intro z h0 h1; omega) | (exact upto_s (p := fun z v => v = 0) hI.2.2.2.2 rfl) | (exact MT_s hI.2.2.2.2.2.1 (by omega)) | (unfold rEvening; rw [if_pos (by omega), if_pos (by omega), hI.2.2.2.2.2.2.1, show x10 = a2 by omega]) | (unfold rEvening; rw [if_pos (by omega), if_neg (by omega), if_pos (by omega), hI.2.2.2.2.2.2.2.1, show x10 = a2 by omega]) | (unfold rEvening; rw [if_pos (by omega), if_neg (by omega), if_neg (by omega), hI.2.2.2.2.2.2.2.2.2, show x10 = a2 by omega]) | grind [upI])
theorem vX3_evening_2 (s : MS) (a1 : Int) (a2 : Int) (a3 : Int) (hp : tOK (s.2 6) ∧ aOK (s.2 6) (s.2 7) ∧ lOK ((s.2 5) 0) (s.2 6)) (x1 : Int) (x2 : Int) (x3 : Int) (x4 : Int) (f11 : Int → Int) (f12 : Int → Int) (f13 : Int → Int) (f14 : Int → Int) (f15 : Int → Int) (f16 : Int → Int) (f17 : Int → Int) (f18 : Int → Int) (f19 : Int → Int) (k0 : Int) (k25 : Int) (k33 : Int) (k34 : Int) (hI : k0 = 0 ∧ GO (s.2 6) (s.2 7) f13 f14 f15 f16 ∧ (x1 = a1 ∧ x2 = a2 ∧ x3 = a3 ∧ 0 < s.2 5 0 ∧ 0 ≤ a1 ∧ a1 ≤ 2000000000 ∧ 1 ≤ a2 ∧ a2 ≤ 100 ∧ 0 ≤ a3 ∧ a3 ≤ 2) ∧ (0 ≤ x4 ∧ x4 ≤ s.2 6 2) ∧ ∀ z : Int, 0 ≤ z → z < x4 → f17 z = 0) (c_1 : (s.2 6 2) ≤ x4) : lex3 0 0 ((a2 - (0 : Int)).toNat) 0 1 ((s.2 6 2 - x4).toNat) := by
  obtain ⟨ht, ha, hl⟩ := hp
  have hN := tOK_N ht
  have hg := nx_rng (s.2 6) (s.2 7)
  (try simp only [bI_0, bI_n, Classical.not_not] at *)
  (try have hq := ‹GO (s.2 6) (s.2 7) _ _ _ _›)
  (try have hq := hI.2.1)
  (try have hx := GO_at hq (x := a1) (by omega) (by omega))
  (try have hN2 : 0 < s.2 6 2 := lOK_N ht hl (by omega))
  (try have hdb := drwI_b (sd := a1) (k := x10) hN2)
  (try have hd1 := drw_s (sd := a1) (by omega) (by omega) (by omega) hI.2.2.2.2.1)
  (try have hdi := drw_i (sd := a1) (N := s.2 6 2) (k := x10) (by omega) (by omega) hN2 (by omega) rfl)
  (try simp only [hd1, hdi] at *)
  (try have hy := GO_at hq hdb.1 hdb.2)
  (try (have y1 := hy.2.1.1; have y2 := hy.1.2.1; have y3 := hy.2.1.2; have y4 := hy.1.2.2))
  (try (clear hy; simp only [y1, y2] at *))
  (try have hs := sumI_s (newK (fun k => hm (nx (s.2 6) (s.2 7)) (drwI a1 (s.2 6 2) k))) (k := x10) (by omega))
  (try have hsb := sumI_b (f := newK (fun k => hm (nx (s.2 6) (s.2 7)) (drwI a1 (s.2 6 2) k))) x10.toNat (fun i _ _ => newK_01 _ _))
  (try have hn : (f17 (hm (nx (s.2 6) (s.2 7)) (drwI a1 (s.2 6 2) x10)) = 0 → newK (fun k => hm (nx (s.2 6) (s.2 7)) (drwI a1 (s.2 6 2) k)) x10 = 1) ∧ (¬ f17 (hm (nx (s.2 6) (s.2 7)) (drwI a1 (s.2 6 2) x10)) = 0 → newK (fun k => hm (nx (s.2 6) (s.2 7)) (drwI a1 (s.2 6 2) k)) x10 = 0) := MT_new hI.2.2.2.2.2.1 y3)
  (try have hm1 : maxI 0 (fun k => tl (nx (s.2 6) (s.2 7)) (drwI a1 (s.2 6 2) k)) x10.toNat < tl (nx (s.2 6) (s.2 7)) (drwI a1 (s.2 6 2) x10) → maxI 0 (fun k => tl (nx (s.2 6) (s.2 7)) (drwI a1 (s.2 6 2) k)) (x10 + 1).toNat = tl (nx (s.2 6) (s.2 7)) (drwI a1 (s.2 6 2) x10) := max_hit (by omega))
  (try have hm2 : ¬ maxI 0 (fun k => tl (nx (s.2 6) (s.2 7)) (drwI a1 (s.2 6 2) k)) x10.toNat < tl (nx (s.2 6) (s.2 7)) (drwI a1 (s.2 6 2) x10) → maxI 0 (fun k => tl (nx (s.2 6) (s.2 7)) (drwI a1 (s.2 6 2) k)) (x10 + 1).toNat = maxI 0 (fun k => tl (nx (s.2 6) (s.2 7)) (drwI a1 (s.2 6 2) k)) x10.toNat := max_not (by omega))
  (try have hb := many_b (fun k => hm (nx (s.2 6) (s.2 7)) (drwI a1 (s.2 6 2) k) = hm (nx (s.2 6) (s.2 7)) (drwI a1 (s.2 6 2) 0)) x10.toNat)
  (try have hS1 : hm (nx (s.2 6) (s.2 7)) (drwI a1 (s.2 6 2) x10) = hm (nx (s.2 6) (s.2 7)) (drwI a1 (s.2 6 2) 0) → many (fun k => hm (nx (s.2 6) (s.2 7)) (drwI a1 (s.2 6 2) k) = hm (nx (s.2 6) (s.2 7)) (drwI a1 (s.2 6 2) 0)) (x10 + 1).toNat = many (fun k => hm (nx (s.2 6) (s.2 7)) (drwI a1 (s.2 6 2) k) = hm (nx (s.2 6) (s.2 7)) (drwI a1 (s.2 6 2) 0)) x10.toNat + 1 := fun h => many_t (by omega) h)
  (try have hS2 : ¬ hm (nx (s.2 6) (s.2 7)) (drwI a1 (s.2 6 2) x10) = hm (nx (s.2 6) (s.2 7)) (drwI a1 (s.2 6 2) 0) → many (fun k => hm (nx (s.2 6) (s.2 7)) (drwI a1 (s.2 6 2) k) = hm (nx (s.2 6) (s.2 7)) (drwI a1 (s.2 6 2) 0)) (x10 + 1).toNat = many (fun k => hm (nx (s.2 6) (s.2 7)) (drwI a1 (s.2 6 2) k) = hm (nx (s.2 6) (s.2 7)) (drwI a1 (s.2 6 2) 0)) x10.toNat := fun h => many_f (by omega) h)
  (try have hz : x10 = 0 → hm (nx (s.2 6) (s.2 7)) (drwI a1 (s.2 6 2) x10) = hm (nx (s.2 6) (s.2 7)) (drwI a1 (s.2 6 2) 0) := fun h => by rw [h])
  (try have h00 := (hm_b hg (drwI_b (sd := a1) (k := 0) hN2).1 (drwI_b (sd := a1) (k := 0) hN2).2).1)
  (try have hzz := hI.2.2.2.2.2.2.2.2.1)
  (try unfold lex3)
  (try simp only [bI_0, bI_n, Classical.not_not] at *)
  (try simp (disch := omega) only [i32_id] at *)
  first | done | omega | ((repeat' (with_reducible apply And.intro)) <;> first | assumption | rfl | omega | (exact hI.1) | (exact hI.2.1) | (exact hq) | (unfold rEvening; rw [if_neg (by omega)]) | (exact hI.2.2.1.1) | (exact MT_0 (fun z a b => hI.2.2.2.2 z a (by omega))) | (exact Or.inl ⟨rfl, rfl⟩) | (intro z h0 h1; omega) | (exact upto_s (p := fun z v => v = 0) hI.2.2.2.2 rfl) | (exact MT_s hI.2.2.2.2.2.1 (by omega)) | (unfold rEvening; rw [if_pos (by omega), if_pos (by omega), hI.2.2.2.2.2.2.1, show x10 = a2 by omega]) | (unfold rEvening; rw [if_pos (by omega), if_neg (by omega), if_pos (by omega), hI.2.2.2.2.2.2.2.1, show x10 = a2 by omega]) | (unfold rEvening; rw [if_pos (by omega), if_neg (by omega), if_neg (by omega), hI.2.2.2.2.2.2.2.2.2, show x10 = a2 by omega]) | grind [upI])
theorem vX3_evening_3 (s : MS) (a1 : Int) (a2 : Int) (a3 : Int) (hp : tOK (s.2 6) ∧ aOK (s.2 6) (s.2 7) ∧ lOK ((s.2 5) 0) (s.2 6)) (x1 : Int) (x2 : Int) (x3 : Int) (x4 : Int) (f11 : Int → Int) (f12 : Int → Int) (f13 : Int → Int) (f14 : Int → Int) (f15 : Int → Int) (f16 : Int → Int) (f17 : Int → Int) (f18 : Int → Int) (f19 : Int → Int) (k0 : Int) (k25 : Int) (k33 : Int) (k34 : Int) (hI : k0 = 0 ∧ GO (s.2 6) (s.2 7) f13 f14 f15 f16 ∧ (x1 = a1 ∧ x2 = a2 ∧ x3 = a3 ∧ 0 < s.2 5 0 ∧ 0 ≤ a1 ∧ a1 ≤ 2000000000 ∧ 1 ≤ a2 ∧ a2 ≤ 100 ∧ 0 ≤ a3 ∧ a3 ≤ 2) ∧ (0 ≤ x4 ∧ x4 ≤ s.2 6 2) ∧ ∀ z : Int, 0 ≤ z → z < x4 → f17 z = 0) (c_1 : ¬ (s.2 6 2) ≤ x4) : (0 ≤ x4 ∧ x4 < 10000) := by
  obtain ⟨ht, ha, hl⟩ := hp
  have hN := tOK_N ht
  have hg := nx_rng (s.2 6) (s.2 7)
  (try simp only [bI_0, bI_n, Classical.not_not] at *)
  (try have hq := ‹GO (s.2 6) (s.2 7) _ _ _ _›)
  (try have hq := hI.2.1)
  (try have hx := GO_at hq (x := a1) (by omega) (by omega))
  (try have hN2 : 0 < s.2 6 2 := lOK_N ht hl (by omega))
  (try have hdb := drwI_b (sd := a1) (k := x10) hN2)
  (try have hd1 := drw_s (sd := a1) (by omega) (by omega) (by omega) hI.2.2.2.2.1)
  (try have hdi := drw_i (sd := a1) (N := s.2 6 2) (k := x10) (by omega) (by omega) hN2 (by omega) rfl)
  (try simp only [hd1, hdi] at *)
  (try have hy := GO_at hq hdb.1 hdb.2)
  (try (have y1 := hy.2.1.1; have y2 := hy.1.2.1; have y3 := hy.2.1.2; have y4 := hy.1.2.2))
  (try (clear hy; simp only [y1, y2] at *))
  (try have hs := sumI_s (newK (fun k => hm (nx (s.2 6) (s.2 7)) (drwI a1 (s.2 6 2) k))) (k := x10) (by omega))
  (try have hsb := sumI_b (f := newK (fun k => hm (nx (s.2 6) (s.2 7)) (drwI a1 (s.2 6 2) k))) x10.toNat (fun i _ _ => newK_01 _ _))
  (try have hn : (f17 (hm (nx (s.2 6) (s.2 7)) (drwI a1 (s.2 6 2) x10)) = 0 → newK (fun k => hm (nx (s.2 6) (s.2 7)) (drwI a1 (s.2 6 2) k)) x10 = 1) ∧ (¬ f17 (hm (nx (s.2 6) (s.2 7)) (drwI a1 (s.2 6 2) x10)) = 0 → newK (fun k => hm (nx (s.2 6) (s.2 7)) (drwI a1 (s.2 6 2) k)) x10 = 0) := MT_new hI.2.2.2.2.2.1 y3)
  (try have hm1 : maxI 0 (fun k => tl (nx (s.2 6) (s.2 7)) (drwI a1 (s.2 6 2) k)) x10.toNat < tl (nx (s.2 6) (s.2 7)) (drwI a1 (s.2 6 2) x10) → maxI 0 (fun k => tl (nx (s.2 6) (s.2 7)) (drwI a1 (s.2 6 2) k)) (x10 + 1).toNat = tl (nx (s.2 6) (s.2 7)) (drwI a1 (s.2 6 2) x10) := max_hit (by omega))
  (try have hm2 : ¬ maxI 0 (fun k => tl (nx (s.2 6) (s.2 7)) (drwI a1 (s.2 6 2) k)) x10.toNat < tl (nx (s.2 6) (s.2 7)) (drwI a1 (s.2 6 2) x10) → maxI 0 (fun k => tl (nx (s.2 6) (s.2 7)) (drwI a1 (s.2 6 2) k)) (x10 + 1).toNat = maxI 0 (fun k => tl (nx (s.2 6) (s.2 7)) (drwI a1 (s.2 6 2) k)) x10.toNat := max_not (by omega))
  (try have hb := many_b (fun k => hm (nx (s.2 6) (s.2 7)) (drwI a1 (s.2 6 2) k) = hm (nx (s.2 6) (s.2 7)) (drwI a1 (s.2 6 2) 0)) x10.toNat)
  (try have hS1 : hm (nx (s.2 6) (s.2 7)) (drwI a1 (s.2 6 2) x10) = hm (nx (s.2 6) (s.2 7)) (drwI a1 (s.2 6 2) 0) → many (fun k => hm (nx (s.2 6) (s.2 7)) (drwI a1 (s.2 6 2) k) = hm (nx (s.2 6) (s.2 7)) (drwI a1 (s.2 6 2) 0)) (x10 + 1).toNat = many (fun k => hm (nx (s.2 6) (s.2 7)) (drwI a1 (s.2 6 2) k) = hm (nx (s.2 6) (s.2 7)) (drwI a1 (s.2 6 2) 0)) x10.toNat + 1 := fun h => many_t (by omega) h)
  (try have hS2 : ¬ hm (nx (s.2 6) (s.2 7)) (drwI a1 (s.2 6 2) x10) = hm (nx (s.2 6) (s.2 7)) (drwI a1 (s.2 6 2) 0) → many (fun k => hm (nx (s.2 6) (s.2 7)) (drwI a1 (s.2 6 2) k) = hm (nx (s.2 6) (s.2 7)) (drwI a1 (s.2 6 2) 0)) (x10 + 1).toNat = many (fun k => hm (nx (s.2 6) (s.2 7)) (drwI a1 (s.2 6 2) k) = hm (nx (s.2 6) (s.2 7)) (drwI a1 (s.2 6 2) 0)) x10.toNat := fun h => many_f (by omega) h)
  (try have hz : x10 = 0 → hm (nx (s.2 6) (s.2 7)) (drwI a1 (s.2 6 2) x10) = hm (nx (s.2 6) (s.2 7)) (drwI a1 (s.2 6 2) 0) := fun h => by rw [h])
  (try have h00 := (hm_b hg (drwI_b (sd := a1) (k := 0) hN2).1 (drwI_b (sd := a1) (k := 0) hN2).2).1)
  (try have hzz := hI.2.2.2.2.2.2.2.2.1)
  (try unfold lex3)
  (try simp only [bI_0, bI_n, Classical.not_not] at *)
  (try simp (disch := omega) only [i32_id] at *)
  first | done | omega | ((repeat' (with_reducible apply And.intro)) <;> first | assumption | rfl | omega | (exact hI.1) | (exact hI.2.1) | (exact hq) | (unfold rEvening; rw [if_neg (by omega)]) | (exact hI.2.2.1.1) | (exact MT_0 (fun z a b => hI.2.2.2.2 z a (by omega))) | (exact Or.inl ⟨rfl, rfl⟩) | (intro z h0 h1; omega) | (exact upto_s (p := fun z v => v = 0) hI.2.2.2.2 rfl) | (exact MT_s hI.2.2.2.2.2.1 (by omega)) | (unfold rEvening; rw [if_pos (by omega), if_pos (by omega), hI.2.2.2.2.2.2.1, show x10 = a2 by omega]) | (unfold rEvening; rw [if_pos (by omega), if_neg (by omega), if_pos (by omega), hI.2.2.2.2.2.2.2.1, show x10 = a2 by omega]) | (unfold rEvening; rw [if_pos (by omega), if_neg (by omega), if_neg (by omega), hI.2.2.2.2.2.2.2.2.2, show x10 = a2 by omega]) | grind [upI])
theorem vX3_evening_4 (s : MS) (a1 : Int) (a2 : Int) (a3 : Int) (hp : tOK (s.2 6) ∧ aOK (s.2 6) (s.2 7) ∧ lOK ((s.2 5) 0) (s.2 6)) (x1 : Int) (x2 : Int) (x3 : Int) (x4 : Int) (f11 : Int → Int) (f12 : Int → Int) (f13 : Int → Int) (f14 : Int → Int) (f15 : Int → Int) (f16 : Int → Int) (f17 : Int → Int) (f18 : Int → Int) (f19 : Int → Int) (k0 : Int) (k25 : Int) (k33 : Int) (k34 : Int) (hI : k0 = 0 ∧ GO (s.2 6) (s.2 7) f13 f14 f15 f16 ∧ (x1 = a1 ∧ x2 = a2 ∧ x3 = a3 ∧ 0 < s.2 5 0 ∧ 0 ≤ a1 ∧ a1 ≤ 2000000000 ∧ 1 ≤ a2 ∧ a2 ≤ 100 ∧ 0 ≤ a3 ∧ a3 ≤ 2) ∧ (0 ≤ x4 ∧ x4 ≤ s.2 6 2) ∧ ∀ z : Int, 0 ≤ z → z < x4 → f17 z = 0) (c_1 : ¬ (s.2 6 2) ≤ x4) (o_2 : (0 ≤ x4 ∧ x4 < 10000)) : k0 = 0 ∧ GO (s.2 6) (s.2 7) f13 f14 f15 f16 ∧ (x1 = a1 ∧ x2 = a2 ∧ x3 = a3 ∧ 0 < s.2 5 0 ∧ 0 ≤ a1 ∧ a1 ≤ 2000000000 ∧ 1 ≤ a2 ∧ a2 ≤ 100 ∧ 0 ≤ a3 ∧ a3 ≤ 2) ∧ (0 ≤ (i32 (x4 + 1)) ∧ (i32 (x4 + 1)) ≤ s.2 6 2) ∧ ∀ z : Int, 0 ≤ z → z < (i32 (x4 + 1)) → (upI f17 x4 0) z = 0 := by
  obtain ⟨ht, ha, hl⟩ := hp
  have hN := tOK_N ht
  have hg := nx_rng (s.2 6) (s.2 7)
  (try simp only [bI_0, bI_n, Classical.not_not] at *)
  (try have hq := ‹GO (s.2 6) (s.2 7) _ _ _ _›)
  (try have hq := hI.2.1)
  (try have hx := GO_at hq (x := a1) (by omega) (by omega))
  (try have hN2 : 0 < s.2 6 2 := lOK_N ht hl (by omega))
  (try have hdb := drwI_b (sd := a1) (k := x10) hN2)
  (try have hd1 := drw_s (sd := a1) (by omega) (by omega) (by omega) hI.2.2.2.2.1)
  (try have hdi := drw_i (sd := a1) (N := s.2 6 2) (k := x10) (by omega) (by omega) hN2 (by omega) rfl)
  (try simp only [hd1, hdi] at *)
  (try have hy := GO_at hq hdb.1 hdb.2)
  (try (have y1 := hy.2.1.1; have y2 := hy.1.2.1; have y3 := hy.2.1.2; have y4 := hy.1.2.2))
  (try (clear hy; simp only [y1, y2] at *))
  (try have hs := sumI_s (newK (fun k => hm (nx (s.2 6) (s.2 7)) (drwI a1 (s.2 6 2) k))) (k := x10) (by omega))
  (try have hsb := sumI_b (f := newK (fun k => hm (nx (s.2 6) (s.2 7)) (drwI a1 (s.2 6 2) k))) x10.toNat (fun i _ _ => newK_01 _ _))
  (try have hn : (f17 (hm (nx (s.2 6) (s.2 7)) (drwI a1 (s.2 6 2) x10)) = 0 → newK (fun k => hm (nx (s.2 6) (s.2 7)) (drwI a1 (s.2 6 2) k)) x10 = 1) ∧ (¬ f17 (hm (nx (s.2 6) (s.2 7)) (drwI a1 (s.2 6 2) x10)) = 0 → newK (fun k => hm (nx (s.2 6) (s.2 7)) (drwI a1 (s.2 6 2) k)) x10 = 0) := MT_new hI.2.2.2.2.2.1 y3)
  (try have hm1 : maxI 0 (fun k => tl (nx (s.2 6) (s.2 7)) (drwI a1 (s.2 6 2) k)) x10.toNat < tl (nx (s.2 6) (s.2 7)) (drwI a1 (s.2 6 2) x10) → maxI 0 (fun k => tl (nx (s.2 6) (s.2 7)) (drwI a1 (s.2 6 2) k)) (x10 + 1).toNat = tl (nx (s.2 6) (s.2 7)) (drwI a1 (s.2 6 2) x10) := max_hit (by omega))
  (try have hm2 : ¬ maxI 0 (fun k => tl (nx (s.2 6) (s.2 7)) (drwI a1 (s.2 6 2) k)) x10.toNat < tl (nx (s.2 6) (s.2 7)) (drwI a1 (s.2 6 2) x10) → maxI 0 (fun k => tl (nx (s.2 6) (s.2 7)) (drwI a1 (s.2 6 2) k)) (x10 + 1).toNat = maxI 0 (fun k => tl (nx (s.2 6) (s.2 7)) (drwI a1 (s.2 6 2) k)) x10.toNat := max_not (by omega))
  (try have hb := many_b (fun k => hm (nx (s.2 6) (s.2 7)) (drwI a1 (s.2 6 2) k) = hm (nx (s.2 6) (s.2 7)) (drwI a1 (s.2 6 2) 0)) x10.toNat)
  (try have hS1 : hm (nx (s.2 6) (s.2 7)) (drwI a1 (s.2 6 2) x10) = hm (nx (s.2 6) (s.2 7)) (drwI a1 (s.2 6 2) 0) → many (fun k => hm (nx (s.2 6) (s.2 7)) (drwI a1 (s.2 6 2) k) = hm (nx (s.2 6) (s.2 7)) (drwI a1 (s.2 6 2) 0)) (x10 + 1).toNat = many (fun k => hm (nx (s.2 6) (s.2 7)) (drwI a1 (s.2 6 2) k) = hm (nx (s.2 6) (s.2 7)) (drwI a1 (s.2 6 2) 0)) x10.toNat + 1 := fun h => many_t (by omega) h)
  (try have hS2 : ¬ hm (nx (s.2 6) (s.2 7)) (drwI a1 (s.2 6 2) x10) = hm (nx (s.2 6) (s.2 7)) (drwI a1 (s.2 6 2) 0) → many (fun k => hm (nx (s.2 6) (s.2 7)) (drwI a1 (s.2 6 2) k) = hm (nx (s.2 6) (s.2 7)) (drwI a1 (s.2 6 2) 0)) (x10 + 1).toNat = many (fun k => hm (nx (s.2 6) (s.2 7)) (drwI a1 (s.2 6 2) k) = hm (nx (s.2 6) (s.2 7)) (drwI a1 (s.2 6 2) 0)) x10.toNat := fun h => many_f (by omega) h)
  (try have hz : x10 = 0 → hm (nx (s.2 6) (s.2 7)) (drwI a1 (s.2 6 2) x10) = hm (nx (s.2 6) (s.2 7)) (drwI a1 (s.2 6 2) 0) := fun h => by rw [h])
  (try have h00 := (hm_b hg (drwI_b (sd := a1) (k := 0) hN2).1 (drwI_b (sd := a1) (k := 0) hN2).2).1)
  (try have hzz := hI.2.2.2.2.2.2.2.2.1)
  (try unfold lex3)
  (try simp only [bI_0, bI_n, Classical.not_not] at *)
  (try simp (disch := omega) only [i32_id] at *)
  first | done | omega | ((repeat' (with_reducible apply And.intro)) <;> first | assumption | rfl | omega | (exact hI.1) | (exact hI.2.1) | (exact hq) | (unfold rEvening; rw [if_neg (by omega)]) | (exact hI.2.2.1.1) | (exact MT_0 (fun z a b => hI.2.2.2.2 z a (by omega))) | (exact Or.inl ⟨rfl, rfl⟩) | (intro z h0 h1; omega) | (exact upto_s (p := fun z v => v = 0) hI.2.2.2.2 rfl) | (exact MT_s hI.2.2.2.2.2.1 (by omega)) | (unfold rEvening; rw [if_pos (by omega), if_pos (by omega), hI.2.2.2.2.2.2.1, show x10 = a2 by omega]) | (unfold rEvening; rw [if_pos (by omega), if_neg (by omega), if_pos (by omega), hI.2.2.2.2.2.2.2.1, show x10 = a2 by omega]) | (unfold rEvening; rw [if_pos (by omega), if_neg (by omega), if_neg (by omega), hI.2.2.2.2.2.2.2.2.2, show x10 = a2 by omega]) | grind [upI])
theorem vX3_evening_5 (s : MS) (a1 : Int) (a2 : Int) (a3 : Int) (hp : tOK (s.2 6) ∧ aOK (s.2 6) (s.2 7) ∧ lOK ((s.2 5) 0) (s.2 6)) (x1 : Int) (x2 : Int) (x3 : Int) (x4 : Int) (f11 : Int → Int) (f12 : Int → Int) (f13 : Int → Int) (f14 : Int → Int) (f15 : Int → Int) (f16 : Int → Int) (f17 : Int → Int) (f18 : Int → Int) (f19 : Int → Int) (k0 : Int) (k25 : Int) (k33 : Int) (k34 : Int) (hI : k0 = 0 ∧ GO (s.2 6) (s.2 7) f13 f14 f15 f16 ∧ (x1 = a1 ∧ x2 = a2 ∧ x3 = a3 ∧ 0 < s.2 5 0 ∧ 0 ≤ a1 ∧ a1 ≤ 2000000000 ∧ 1 ≤ a2 ∧ a2 ≤ 100 ∧ 0 ≤ a3 ∧ a3 ≤ 2) ∧ (0 ≤ x4 ∧ x4 ≤ s.2 6 2) ∧ ∀ z : Int, 0 ≤ z → z < x4 → f17 z = 0) (c_1 : ¬ (s.2 6 2) ≤ x4) (o_2 : (0 ≤ x4 ∧ x4 < 10000)) : lex3 0 1 ((s.2 6 2 - (i32 (x4 + 1))).toNat) 0 1 ((s.2 6 2 - x4).toNat) := by
  obtain ⟨ht, ha, hl⟩ := hp
  have hN := tOK_N ht
  have hg := nx_rng (s.2 6) (s.2 7)
  (try simp only [bI_0, bI_n, Classical.not_not] at *)
  (try have hq := ‹GO (s.2 6) (s.2 7) _ _ _ _›)
  (try have hq := hI.2.1)
  (try have hx := GO_at hq (x := a1) (by omega) (by omega))
  (try have hN2 : 0 < s.2 6 2 := lOK_N ht hl (by omega))
  (try have hdb := drwI_b (sd := a1) (k := x10) hN2)
  (try have hd1 := drw_s (sd := a1) (by omega) (by omega) (by omega) hI.2.2.2.2.1)
  (try have hdi := drw_i (sd := a1) (N := s.2 6 2) (k := x10) (by omega) (by omega) hN2 (by omega) rfl)
  (try simp only [hd1, hdi] at *)
  (try have hy := GO_at hq hdb.1 hdb.2)
  (try (have y1 := hy.2.1.1; have y2 := hy.1.2.1; have y3 := hy.2.1.2; have y4 := hy.1.2.2))
  (try (clear hy; simp only [y1, y2] at *))
  (try have hs := sumI_s (newK (fun k => hm (nx (s.2 6) (s.2 7)) (drwI a1 (s.2 6 2) k))) (k := x10) (by omega))
  (try have hsb := sumI_b (f := newK (fun k => hm (nx (s.2 6) (s.2 7)) (drwI a1 (s.2 6 2) k))) x10.toNat (fun i _ _ => newK_01 _ _))
  (try have hn : (f17 (hm (nx (s.2 6) (s.2 7)) (drwI a1 (s.2 6 2) x10)) = 0 → newK (fun k => hm (nx (s.2 6) (s.2 7)) (drwI a1 (s.2 6 2) k)) x10 = 1) ∧ (¬ f17 (hm (nx (s.2 6) (s.2 7)) (drwI a1 (s.2 6 2) x10)) = 0 → newK (fun k => hm (nx (s.2 6) (s.2 7)) (drwI a1 (s.2 6 2) k)) x10 = 0) := MT_new hI.2.2.2.2.2.1 y3)
  (try have hm1 : maxI 0 (fun k => tl (nx (s.2 6) (s.2 7)) (drwI a1 (s.2 6 2) k)) x10.toNat < tl (nx (s.2 6) (s.2 7)) (drwI a1 (s.2 6 2) x10) → maxI 0 (fun k => tl (nx (s.2 6) (s.2 7)) (drwI a1 (s.2 6 2) k)) (x10 + 1).toNat = tl (nx (s.2 6) (s.2 7)) (drwI a1 (s.2 6 2) x10) := max_hit (by omega))
  (try have hm2 : ¬ maxI 0 (fun k => tl (nx (s.2 6) (s.2 7)) (drwI a1 (s.2 6 2) k)) x10.toNat < tl (nx (s.2 6) (s.2 7)) (drwI a1 (s.2 6 2) x10) → maxI 0 (fun k => tl (nx (s.2 6) (s.2 7)) (drwI a1 (s.2 6 2) k)) (x10 + 1).toNat = maxI 0 (fun k => tl (nx (s.2 6) (s.2 7)) (drwI a1 (s.2 6 2) k)) x10.toNat := max_not (by omega))
  (try have hb := many_b (fun k => hm (nx (s.2 6) (s.2 7)) (drwI a1 (s.2 6 2) k) = hm (nx (s.2 6) (s.2 7)) (drwI a1 (s.2 6 2) 0)) x10.toNat)
  (try have hS1 : hm (nx (s.2 6) (s.2 7)) (drwI a1 (s.2 6 2) x10) = hm (nx (s.2 6) (s.2 7)) (drwI a1 (s.2 6 2) 0) → many (fun k => hm (nx (s.2 6) (s.2 7)) (drwI a1 (s.2 6 2) k) = hm (nx (s.2 6) (s.2 7)) (drwI a1 (s.2 6 2) 0)) (x10 + 1).toNat = many (fun k => hm (nx (s.2 6) (s.2 7)) (drwI a1 (s.2 6 2) k) = hm (nx (s.2 6) (s.2 7)) (drwI a1 (s.2 6 2) 0)) x10.toNat + 1 := fun h => many_t (by omega) h)
  (try have hS2 : ¬ hm (nx (s.2 6) (s.2 7)) (drwI a1 (s.2 6 2) x10) = hm (nx (s.2 6) (s.2 7)) (drwI a1 (s.2 6 2) 0) → many (fun k => hm (nx (s.2 6) (s.2 7)) (drwI a1 (s.2 6 2) k) = hm (nx (s.2 6) (s.2 7)) (drwI a1 (s.2 6 2) 0)) (x10 + 1).toNat = many (fun k => hm (nx (s.2 6) (s.2 7)) (drwI a1 (s.2 6 2) k) = hm (nx (s.2 6) (s.2 7)) (drwI a1 (s.2 6 2) 0)) x10.toNat := fun h => many_f (by omega) h)
  (try have hz : x10 = 0 → hm (nx (s.2 6) (s.2 7)) (drwI a1 (s.2 6 2) x10) = hm (nx (s.2 6) (s.2 7)) (drwI a1 (s.2 6 2) 0) := fun h => by rw [h])
  (try have h00 := (hm_b hg (drwI_b (sd := a1) (k := 0) hN2).1 (drwI_b (sd := a1) (k := 0) hN2).2).1)
  (try have hzz := hI.2.2.2.2.2.2.2.2.1)
  (try unfold lex3)
  (try simp only [bI_0, bI_n, Classical.not_not] at *)
  (try simp (disch := omega) only [i32_id] at *)
  first | done | omega | ((repeat' (with_reducible apply And.intro)) <;> first | assumption | rfl | omega | (exact hI.1) | (exact hI.2.1) | (exact hq) | (unfold rEvening; rw [if_neg (by omega)]) | (exact hI.2.2.1.1) | (exact MT_0 (fun z a b => hI.2.2.2.2 z a (by omega))) | (exact Or.inl ⟨rfl, rfl⟩) | (intro z h0 h1; omega) | (exact upto_s (p := fun z v => v = 0) hI.2.2.2.2 rfl) | (exact MT_s hI.2.2.2.2.2.1 (by omega)) | (unfold rEvening; rw [if_pos (by omega), if_pos (by omega), hI.2.2.2.2.2.2.1, show x10 = a2 by omega]) | (unfold rEvening; rw [if_pos (by omega), if_neg (by omega), if_pos (by omega), hI.2.2.2.2.2.2.2.1, show x10 = a2 by omega]) | (unfold rEvening; rw [if_pos (by omega), if_neg (by omega), if_neg (by omega), hI.2.2.2.2.2.2.2.2.2, show x10 = a2 by omega]) | grind [upI])
theorem vX3_evening_6 (s : MS) (a1 : Int) (a2 : Int) (a3 : Int) (hp : tOK (s.2 6) ∧ aOK (s.2 6) (s.2 7) ∧ lOK ((s.2 5) 0) (s.2 6)) (x2 : Int) (x3 : Int) (x4 : Int) (x6 : Int) (x7 : Int) (x8 : Int) (x9 : Int) (x10 : Int) (f11 : Int → Int) (f12 : Int → Int) (f13 : Int → Int) (f14 : Int → Int) (f15 : Int → Int) (f16 : Int → Int) (f17 : Int → Int) (f18 : Int → Int) (f19 : Int → Int) (k0 : Int) (k25 : Int) (k33 : Int) (k34 : Int) (hI : k0 = 0 ∧ GO (s.2 6) (s.2 7) f13 f14 f15 f16 ∧ (x2 = a2 ∧ x3 = a3 ∧ 0 < s.2 5 0 ∧ 0 ≤ a1 ∧ a1 ≤ 2000000000 ∧ 1 ≤ a2 ∧ a2 ≤ 100 ∧ 0 ≤ a3 ∧ a3 ≤ 2) ∧ (0 ≤ x10 ∧ x10 ≤ a2) ∧ x4 = drw a1 x10.toNat ∧ MT (fun k => hm (nx (s.2 6) (s.2 7)) (drwI a1 (s.2 6 2) k)) f17 (s.2 6 2) x10 ∧ x6 = sumI (newK (fun k => hm (nx (s.2 6) (s.2 7)) (drwI a1 (s.2 6 2) k))) x10.toNat ∧ x7 = maxI 0 (fun k => tl (nx (s.2 6) (s.2 7)) (drwI a1 (s.2 6 2) k)) x10.toNat ∧ ((x10 = 0 ∧ x8 = -1) ∨ (0 < x10 ∧ x8 = hm (nx (s.2 6) (s.2 7)) (drwI a1 (s.2 6 2) 0))) ∧ x9 = many (fun k => hm (nx (s.2 6) (s.2 7)) (drwI a1 (s.2 6 2) k) = hm (nx (s.2 6) (s.2 7)) (drwI a1 (s.2 6 2) 0)) x10.toNat) (c_1 : x2 ≤ x10) (c_2 : ¬ x3 = 0) (c_3 : ¬ x3 = 1) : k0 = (0) := by
  obtain ⟨ht, ha, hl⟩ := hp
  have hN := tOK_N ht
  have hg := nx_rng (s.2 6) (s.2 7)
  (try simp only [bI_0, bI_n, Classical.not_not] at *)
  (try have hq := ‹GO (s.2 6) (s.2 7) _ _ _ _›)
  (try have hq := hI.2.1)
  (try have hx := GO_at hq (x := a1) (by omega) (by omega))
  (try have hN2 : 0 < s.2 6 2 := lOK_N ht hl (by omega))
  (try have hdb := drwI_b (sd := a1) (k := x10) hN2)
  (try have hd1 := drw_s (sd := a1) (by omega) (by omega) (by omega) hI.2.2.2.2.1)
  (try have hdi := drw_i (sd := a1) (N := s.2 6 2) (k := x10) (by omega) (by omega) hN2 (by omega) rfl)
  (try simp only [hd1, hdi] at *)
  (try have hy := GO_at hq hdb.1 hdb.2)
  (try (have y1 := hy.2.1.1; have y2 := hy.1.2.1; have y3 := hy.2.1.2; have y4 := hy.1.2.2))
  (try (clear hy; simp only [y1, y2] at *))
  (try have hs := sumI_s (newK (fun k => hm (nx (s.2 6) (s.2 7)) (drwI a1 (s.2 6 2) k))) (k := x10) (by omega))
  (try have hsb := sumI_b (f := newK (fun k => hm (nx (s.2 6) (s.2 7)) (drwI a1 (s.2 6 2) k))) x10.toNat (fun i _ _ => newK_01 _ _))
  (try have hn : (f17 (hm (nx (s.2 6) (s.2 7)) (drwI a1 (s.2 6 2) x10)) = 0 → newK (fun k => hm (nx (s.2 6) (s.2 7)) (drwI a1 (s.2 6 2) k)) x10 = 1) ∧ (¬ f17 (hm (nx (s.2 6) (s.2 7)) (drwI a1 (s.2 6 2) x10)) = 0 → newK (fun k => hm (nx (s.2 6) (s.2 7)) (drwI a1 (s.2 6 2) k)) x10 = 0) := MT_new hI.2.2.2.2.2.1 y3)
  (try have hm1 : maxI 0 (fun k => tl (nx (s.2 6) (s.2 7)) (drwI a1 (s.2 6 2) k)) x10.toNat < tl (nx (s.2 6) (s.2 7)) (drwI a1 (s.2 6 2) x10) → maxI 0 (fun k => tl (nx (s.2 6) (s.2 7)) (drwI a1 (s.2 6 2) k)) (x10 + 1).toNat = tl (nx (s.2 6) (s.2 7)) (drwI a1 (s.2 6 2) x10) := max_hit (by omega))
  (try have hm2 : ¬ maxI 0 (fun k => tl (nx (s.2 6) (s.2 7)) (drwI a1 (s.2 6 2) k)) x10.toNat < tl (nx (s.2 6) (s.2 7)) (drwI a1 (s.2 6 2) x10) → maxI 0 (fun k => tl (nx (s.2 6) (s.2 7)) (drwI a1 (s.2 6 2) k)) (x10 + 1).toNat = maxI 0 (fun k => tl (nx (s.2 6) (s.2 7)) (drwI a1 (s.2 6 2) k)) x10.toNat := max_not (by omega))
  (try have hb := many_b (fun k => hm (nx (s.2 6) (s.2 7)) (drwI a1 (s.2 6 2) k) = hm (nx (s.2 6) (s.2 7)) (drwI a1 (s.2 6 2) 0)) x10.toNat)
  (try have hS1 : hm (nx (s.2 6) (s.2 7)) (drwI a1 (s.2 6 2) x10) = hm (nx (s.2 6) (s.2 7)) (drwI a1 (s.2 6 2) 0) → many (fun k => hm (nx (s.2 6) (s.2 7)) (drwI a1 (s.2 6 2) k) = hm (nx (s.2 6) (s.2 7)) (drwI a1 (s.2 6 2) 0)) (x10 + 1).toNat = many (fun k => hm (nx (s.2 6) (s.2 7)) (drwI a1 (s.2 6 2) k) = hm (nx (s.2 6) (s.2 7)) (drwI a1 (s.2 6 2) 0)) x10.toNat + 1 := fun h => many_t (by omega) h)
  (try have hS2 : ¬ hm (nx (s.2 6) (s.2 7)) (drwI a1 (s.2 6 2) x10) = hm (nx (s.2 6) (s.2 7)) (drwI a1 (s.2 6 2) 0) → many (fun k => hm (nx (s.2 6) (s.2 7)) (drwI a1 (s.2 6 2) k) = hm (nx (s.2 6) (s.2 7)) (drwI a1 (s.2 6 2) 0)) (x10 + 1).toNat = many (fun k => hm (nx (s.2 6) (s.2 7)) (drwI a1 (s.2 6 2) k) = hm (nx (s.2 6) (s.2 7)) (drwI a1 (s.2 6 2) 0)) x10.toNat := fun h => many_f (by omega) h)
  (try have hz : x10 = 0 → hm (nx (s.2 6) (s.2 7)) (drwI a1 (s.2 6 2) x10) = hm (nx (s.2 6) (s.2 7)) (drwI a1 (s.2 6 2) 0) := fun h => by rw [h])
  (try have h00 := (hm_b hg (drwI_b (sd := a1) (k := 0) hN2).1 (drwI_b (sd := a1) (k := 0) hN2).2).1)
  (try have hzz := hI.2.2.2.2.2.2.2.2.1)
  (try unfold lex3)
  (try simp only [bI_0, bI_n, Classical.not_not] at *)
  (try simp (disch := omega) only [i32_id] at *)
  first | done | omega | ((repeat' (with_reducible apply And.intro)) <;> first | assumption | rfl | omega | (exact hI.1) | (exact hI.2.1) | (exact hq) | (unfold rEvening; rw [if_neg (by omega)]) | (exact hI.2.2.1.1) | (exact MT_0 (fun z a b => hI.2.2.2.2 z a (by omega))) | (exact Or.inl ⟨rfl, rfl⟩) | (intro z h0 h1; omega) | (exact upto_s (p := fun z v => v = 0) hI.2.2.2.2 rfl) | (exact MT_s hI.2.2.2.2.2.1 (by omega)) | (unfold rEvening; rw [if_pos (by omega), if_pos (by omega), hI.2.2.2.2.2.2.1, show x10 = a2 by omega]) | (unfold rEvening; rw [if_pos (by omega), if_neg (by omega), if_pos (by omega), hI.2.2.2.2.2.2.2.1, show x10 = a2 by omega]) | (unfold rEvening; rw [if_pos (by omega), if_neg (by omega), if_neg (by omega), hI.2.2.2.2.2.2.2.2.2, show x10 = a2 by omega]) | grind [upI])
theorem vX3_evening_7 (s : MS) (a1 : Int) (a2 : Int) (a3 : Int) (hp : tOK (s.2 6) ∧ aOK (s.2 6) (s.2 7) ∧ lOK ((s.2 5) 0) (s.2 6)) (x2 : Int) (x3 : Int) (x4 : Int) (x6 : Int) (x7 : Int) (x8 : Int) (x9 : Int) (x10 : Int) (f11 : Int → Int) (f12 : Int → Int) (f13 : Int → Int) (f14 : Int → Int) (f15 : Int → Int) (f16 : Int → Int) (f17 : Int → Int) (f18 : Int → Int) (f19 : Int → Int) (k0 : Int) (k25 : Int) (k33 : Int) (k34 : Int) (hI : k0 = 0 ∧ GO (s.2 6) (s.2 7) f13 f14 f15 f16 ∧ (x2 = a2 ∧ x3 = a3 ∧ 0 < s.2 5 0 ∧ 0 ≤ a1 ∧ a1 ≤ 2000000000 ∧ 1 ≤ a2 ∧ a2 ≤ 100 ∧ 0 ≤ a3 ∧ a3 ≤ 2) ∧ (0 ≤ x10 ∧ x10 ≤ a2) ∧ x4 = drw a1 x10.toNat ∧ MT (fun k => hm (nx (s.2 6) (s.2 7)) (drwI a1 (s.2 6 2) k)) f17 (s.2 6 2) x10 ∧ x6 = sumI (newK (fun k => hm (nx (s.2 6) (s.2 7)) (drwI a1 (s.2 6 2) k))) x10.toNat ∧ x7 = maxI 0 (fun k => tl (nx (s.2 6) (s.2 7)) (drwI a1 (s.2 6 2) k)) x10.toNat ∧ ((x10 = 0 ∧ x8 = -1) ∨ (0 < x10 ∧ x8 = hm (nx (s.2 6) (s.2 7)) (drwI a1 (s.2 6 2) 0))) ∧ x9 = many (fun k => hm (nx (s.2 6) (s.2 7)) (drwI a1 (s.2 6 2) k) = hm (nx (s.2 6) (s.2 7)) (drwI a1 (s.2 6 2) 0)) x10.toNat) (c_1 : x2 ≤ x10) (c_2 : ¬ x3 = 0) (c_3 : ¬ x3 = 1) : x9 = (rEvening ((s.2 5) 0) (s.2 6) (s.2 7) a1 a2 a3) := by
  obtain ⟨ht, ha, hl⟩ := hp
  have hN := tOK_N ht
  have hg := nx_rng (s.2 6) (s.2 7)
  (try simp only [bI_0, bI_n, Classical.not_not] at *)
  (try have hq := ‹GO (s.2 6) (s.2 7) _ _ _ _›)
  (try have hq := hI.2.1)
  (try have hx := GO_at hq (x := a1) (by omega) (by omega))
  (try have hN2 : 0 < s.2 6 2 := lOK_N ht hl (by omega))
  (try have hdb := drwI_b (sd := a1) (k := x10) hN2)
  (try have hd1 := drw_s (sd := a1) (by omega) (by omega) (by omega) hI.2.2.2.2.1)
  (try have hdi := drw_i (sd := a1) (N := s.2 6 2) (k := x10) (by omega) (by omega) hN2 (by omega) rfl)
  (try simp only [hd1, hdi] at *)
  (try have hy := GO_at hq hdb.1 hdb.2)
  (try (have y1 := hy.2.1.1; have y2 := hy.1.2.1; have y3 := hy.2.1.2; have y4 := hy.1.2.2))
  (try (clear hy; simp only [y1, y2] at *))
  (try have hs := sumI_s (newK (fun k => hm (nx (s.2 6) (s.2 7)) (drwI a1 (s.2 6 2) k))) (k := x10) (by omega))
  (try have hsb := sumI_b (f := newK (fun k => hm (nx (s.2 6) (s.2 7)) (drwI a1 (s.2 6 2) k))) x10.toNat (fun i _ _ => newK_01 _ _))
  (try have hn : (f17 (hm (nx (s.2 6) (s.2 7)) (drwI a1 (s.2 6 2) x10)) = 0 → newK (fun k => hm (nx (s.2 6) (s.2 7)) (drwI a1 (s.2 6 2) k)) x10 = 1) ∧ (¬ f17 (hm (nx (s.2 6) (s.2 7)) (drwI a1 (s.2 6 2) x10)) = 0 → newK (fun k => hm (nx (s.2 6) (s.2 7)) (drwI a1 (s.2 6 2) k)) x10 = 0) := MT_new hI.2.2.2.2.2.1 y3)
  (try have hm1 : maxI 0 (fun k => tl (nx (s.2 6) (s.2 7)) (drwI a1 (s.2 6 2) k)) x10.toNat < tl (nx (s.2 6) (s.2 7)) (drwI a1 (s.2 6 2) x10) → maxI 0 (fun k => tl (nx (s.2 6) (s.2 7)) (drwI a1 (s.2 6 2) k)) (x10 + 1).toNat = tl (nx (s.2 6) (s.2 7)) (drwI a1 (s.2 6 2) x10) := max_hit (by omega))
  (try have hm2 : ¬ maxI 0 (fun k => tl (nx (s.2 6) (s.2 7)) (drwI a1 (s.2 6 2) k)) x10.toNat < tl (nx (s.2 6) (s.2 7)) (drwI a1 (s.2 6 2) x10) → maxI 0 (fun k => tl (nx (s.2 6) (s.2 7)) (drwI a1 (s.2 6 2) k)) (x10 + 1).toNat = maxI 0 (fun k => tl (nx (s.2 6) (s.2 7)) (drwI a1 (s.2 6 2) k)) x10.toNat := max_not (by omega))
  (try have hb := many_b (fun k => hm (nx (s.2 6) (s.2 7)) (drwI a1 (s.2 6 2) k) = hm (nx (s.2 6) (s.2 7)) (drwI a1 (s.2 6 2) 0)) x10.toNat)
  (try have hS1 : hm (nx (s.2 6) (s.2 7)) (drwI a1 (s.2 6 2) x10) = hm (nx (s.2 6) (s.2 7)) (drwI a1 (s.2 6 2) 0) → many (fun k => hm (nx (s.2 6) (s.2 7)) (drwI a1 (s.2 6 2) k) = hm (nx (s.2 6) (s.2 7)) (drwI a1 (s.2 6 2) 0)) (x10 + 1).toNat = many (fun k => hm (nx (s.2 6) (s.2 7)) (drwI a1 (s.2 6 2) k) = hm (nx (s.2 6) (s.2 7)) (drwI a1 (s.2 6 2) 0)) x10.toNat + 1 := fun h => many_t (by omega) h)
  (try have hS2 : ¬ hm (nx (s.2 6) (s.2 7)) (drwI a1 (s.2 6 2) x10) = hm (nx (s.2 6) (s.2 7)) (drwI a1 (s.2 6 2) 0) → many (fun k => hm (nx (s.2 6) (s.2 7)) (drwI a1 (s.2 6 2) k) = hm (nx (s.2 6) (s.2 7)) (drwI a1 (s.2 6 2) 0)) (x10 + 1).toNat = many (fun k => hm (nx (s.2 6) (s.2 7)) (drwI a1 (s.2 6 2) k) = hm (nx (s.2 6) (s.2 7)) (drwI a1 (s.2 6 2) 0)) x10.toNat := fun h => many_f (by omega) h)
  (try have hz : x10 = 0 → hm (nx (s.2 6) (s.2 7)) (drwI a1 (s.2 6 2) x10) = hm (nx (s.2 6) (s.2 7)) (drwI a1 (s.2 6 2) 0) := fun h => by rw [h])
  (try have h00 := (hm_b hg (drwI_b (sd := a1) (k := 0) hN2).1 (drwI_b (sd := a1) (k := 0) hN2).2).1)
  (try have hzz := hI.2.2.2.2.2.2.2.2.1)
  (try unfold lex3)
  (try simp only [bI_0, bI_n, Classical.not_not] at *)
  (try simp (disch := omega) only [i32_id] at *)
  first | done | omega | ((repeat' (with_reducible apply And.intro)) <;> first | assumption | rfl | omega | (exact hI.1) | (exact hI.2.1) | (exact hq) | (unfold rEvening; rw [if_neg (by omega)]) | (exact hI.2.2.1.1) | (exact MT_0 (fun z a b => hI.2.2.2.2 z a (by omega))) | (exact Or.inl ⟨rfl, rfl⟩) | (intro z h0 h1; omega) | (exact upto_s (p := fun z v => v = 0) hI.2.2.2.2 rfl) | (exact MT_s hI.2.2.2.2.2.1 (by omega)) | (unfold rEvening; rw [if_pos (by omega), if_pos (by omega), hI.2.2.2.2.2.2.1, show x10 = a2 by omega]) | (unfold rEvening; rw [if_pos (by omega), if_neg (by omega), if_pos (by omega), hI.2.2.2.2.2.2.2.1, show x10 = a2 by omega]) | (unfold rEvening; rw [if_pos (by omega), if_neg (by omega), if_neg (by omega), hI.2.2.2.2.2.2.2.2.2, show x10 = a2 by omega]) | grind [upI])
theorem vX3_evening_8 (s : MS) (a1 : Int) (a2 : Int) (a3 : Int) (hp : tOK (s.2 6) ∧ aOK (s.2 6) (s.2 7) ∧ lOK ((s.2 5) 0) (s.2 6)) (x2 : Int) (x3 : Int) (x4 : Int) (x6 : Int) (x7 : Int) (x8 : Int) (x9 : Int) (x10 : Int) (f11 : Int → Int) (f12 : Int → Int) (f13 : Int → Int) (f14 : Int → Int) (f15 : Int → Int) (f16 : Int → Int) (f17 : Int → Int) (f18 : Int → Int) (f19 : Int → Int) (k0 : Int) (k25 : Int) (k33 : Int) (k34 : Int) (hI : k0 = 0 ∧ GO (s.2 6) (s.2 7) f13 f14 f15 f16 ∧ (x2 = a2 ∧ x3 = a3 ∧ 0 < s.2 5 0 ∧ 0 ≤ a1 ∧ a1 ≤ 2000000000 ∧ 1 ≤ a2 ∧ a2 ≤ 100 ∧ 0 ≤ a3 ∧ a3 ≤ 2) ∧ (0 ≤ x10 ∧ x10 ≤ a2) ∧ x4 = drw a1 x10.toNat ∧ MT (fun k => hm (nx (s.2 6) (s.2 7)) (drwI a1 (s.2 6 2) k)) f17 (s.2 6 2) x10 ∧ x6 = sumI (newK (fun k => hm (nx (s.2 6) (s.2 7)) (drwI a1 (s.2 6 2) k))) x10.toNat ∧ x7 = maxI 0 (fun k => tl (nx (s.2 6) (s.2 7)) (drwI a1 (s.2 6 2) k)) x10.toNat ∧ ((x10 = 0 ∧ x8 = -1) ∨ (0 < x10 ∧ x8 = hm (nx (s.2 6) (s.2 7)) (drwI a1 (s.2 6 2) 0))) ∧ x9 = many (fun k => hm (nx (s.2 6) (s.2 7)) (drwI a1 (s.2 6 2) k) = hm (nx (s.2 6) (s.2 7)) (drwI a1 (s.2 6 2) 0)) x10.toNat) (c_1 : x2 ≤ x10) (c_2 : ¬ x3 = 0) (c_3 : x3 = 1) : k0 = (0) := by
  obtain ⟨ht, ha, hl⟩ := hp
  have hN := tOK_N ht
  have hg := nx_rng (s.2 6) (s.2 7)
  (try simp only [bI_0, bI_n, Classical.not_not] at *)
  (try have hq := ‹GO (s.2 6) (s.2 7) _ _ _ _›)
  (try have hq := hI.2.1)
  (try have hx := GO_at hq (x := a1) (by omega) (by omega))
  (try have hN2 : 0 < s.2 6 2 := lOK_N ht hl (by omega))
  (try have hdb := drwI_b (sd := a1) (k := x10) hN2)
  (try have hd1 := drw_s (sd := a1) (by omega) (by omega) (by omega) hI.2.2.2.2.1)
  (try have hdi := drw_i (sd := a1) (N := s.2 6 2) (k := x10) (by omega) (by omega) hN2 (by omega) rfl)
  (try simp only [hd1, hdi] at *)
  (try have hy := GO_at hq hdb.1 hdb.2)
  (try (have y1 := hy.2.1.1; have y2 := hy.1.2.1; have y3 := hy.2.1.2; have y4 := hy.1.2.2))
  (try (clear hy; simp only [y1, y2] at *))
  (try have hs := sumI_s (newK (fun k => hm (nx (s.2 6) (s.2 7)) (drwI a1 (s.2 6 2) k))) (k := x10) (by omega))
  (try have hsb := sumI_b (f := newK (fun k => hm (nx (s.2 6) (s.2 7)) (drwI a1 (s.2 6 2) k))) x10.toNat (fun i _ _ => newK_01 _ _))
  (try have hn : (f17 (hm (nx (s.2 6) (s.2 7)) (drwI a1 (s.2 6 2) x10)) = 0 → newK (fun k => hm (nx (s.2 6) (s.2 7)) (drwI a1 (s.2 6 2) k)) x10 = 1) ∧ (¬ f17 (hm (nx (s.2 6) (s.2 7)) (drwI a1 (s.2 6 2) x10)) = 0 → newK (fun k => hm (nx (s.2 6) (s.2 7)) (drwI a1 (s.2 6 2) k)) x10 = 0) := MT_new hI.2.2.2.2.2.1 y3)
  (try have hm1 : maxI 0 (fun k => tl (nx (s.2 6) (s.2 7)) (drwI a1 (s.2 6 2) k)) x10.toNat < tl (nx (s.2 6) (s.2 7)) (drwI a1 (s.2 6 2) x10) → maxI 0 (fun k => tl (nx (s.2 6) (s.2 7)) (drwI a1 (s.2 6 2) k)) (x10 + 1).toNat = tl (nx (s.2 6) (s.2 7)) (drwI a1 (s.2 6 2) x10) := max_hit (by omega))
  (try have hm2 : ¬ maxI 0 (fun k => tl (nx (s.2 6) (s.2 7)) (drwI a1 (s.2 6 2) k)) x10.toNat < tl (nx (s.2 6) (s.2 7)) (drwI a1 (s.2 6 2) x10) → maxI 0 (fun k => tl (nx (s.2 6) (s.2 7)) (drwI a1 (s.2 6 2) k)) (x10 + 1).toNat = maxI 0 (fun k => tl (nx (s.2 6) (s.2 7)) (drwI a1 (s.2 6 2) k)) x10.toNat := max_not (by omega))
  (try have hb := many_b (fun k => hm (nx (s.2 6) (s.2 7)) (drwI a1 (s.2 6 2) k) = hm (nx (s.2 6) (s.2 7)) (drwI a1 (s.2 6 2) 0)) x10.toNat)
  (try have hS1 : hm (nx (s.2 6) (s.2 7)) (drwI a1 (s.2 6 2) x10) = hm (nx (s.2 6) (s.2 7)) (drwI a1 (s.2 6 2) 0) → many (fun k => hm (nx (s.2 6) (s.2 7)) (drwI a1 (s.2 6 2) k) = hm (nx (s.2 6) (s.2 7)) (drwI a1 (s.2 6 2) 0)) (x10 + 1).toNat = many (fun k => hm (nx (s.2 6) (s.2 7)) (drwI a1 (s.2 6 2) k) = hm (nx (s.2 6) (s.2 7)) (drwI a1 (s.2 6 2) 0)) x10.toNat + 1 := fun h => many_t (by omega) h)
  (try have hS2 : ¬ hm (nx (s.2 6) (s.2 7)) (drwI a1 (s.2 6 2) x10) = hm (nx (s.2 6) (s.2 7)) (drwI a1 (s.2 6 2) 0) → many (fun k => hm (nx (s.2 6) (s.2 7)) (drwI a1 (s.2 6 2) k) = hm (nx (s.2 6) (s.2 7)) (drwI a1 (s.2 6 2) 0)) (x10 + 1).toNat = many (fun k => hm (nx (s.2 6) (s.2 7)) (drwI a1 (s.2 6 2) k) = hm (nx (s.2 6) (s.2 7)) (drwI a1 (s.2 6 2) 0)) x10.toNat := fun h => many_f (by omega) h)
  (try have hz : x10 = 0 → hm (nx (s.2 6) (s.2 7)) (drwI a1 (s.2 6 2) x10) = hm (nx (s.2 6) (s.2 7)) (drwI a1 (s.2 6 2) 0) := fun h => by rw [h])
  (try have h00 := (hm_b hg (drwI_b (sd := a1) (k := 0) hN2).1 (drwI_b (sd := a1) (k := 0) hN2).2).1)
  (try have hzz := hI.2.2.2.2.2.2.2.2.1)
  (try unfold lex3)
  (try simp only [bI_0, bI_n, Classical.not_not] at *)
  (try simp (disch := omega) only [i32_id] at *)
  first | done | omega | ((repeat' (with_reducible apply And.intro)) <;> first | assumption | rfl | omega | (exact hI.1) | (exact hI.2.1) | (exact hq) | (unfold rEvening; rw [if_neg (by omega)]) | (exact hI.2.2.1.1) | (exact MT_0 (fun z a b => hI.2.2.2.2 z a (by omega))) | (exact Or.inl ⟨rfl, rfl⟩) | (intro z h0 h1; omega) | (exact upto_s (p := fun z v => v = 0) hI.2.2.2.2 rfl) | (exact MT_s hI.2.2.2.2.2.1 (by omega)) | (unfold rEvening; rw [if_pos (by omega), if_pos (by omega), hI.2.2.2.2.2.2.1, show x10 = a2 by omega]) | (unfold rEvening; rw [if_pos (by omega), if_neg (by omega), if_pos (by omega), hI.2.2.2.2.2.2.2.1, show x10 = a2 by omega]) | (unfold rEvening; rw [if_pos (by omega), if_neg (by omega), if_neg (by omega), hI.2.2.2.2.2.2.2.2.2, show x10 = a2 by omega]) | grind [upI])
theorem vX3_evening_9 (s : MS) (a1 : Int) (a2 : Int) (a3 : Int) (hp : tOK (s.2 6) ∧ aOK (s.2 6) (s.2 7) ∧ lOK ((s.2 5) 0) (s.2 6)) (x2 : Int) (x3 : Int) (x4 : Int) (x6 : Int) (x7 : Int) (x8 : Int) (x9 : Int) (x10 : Int) (f11 : Int → Int) (f12 : Int → Int) (f13 : Int → Int) (f14 : Int → Int) (f15 : Int → Int) (f16 : Int → Int) (f17 : Int → Int) (f18 : Int → Int) (f19 : Int → Int) (k0 : Int) (k25 : Int) (k33 : Int) (k34 : Int) (hI : k0 = 0 ∧ GO (s.2 6) (s.2 7) f13 f14 f15 f16 ∧ (x2 = a2 ∧ x3 = a3 ∧ 0 < s.2 5 0 ∧ 0 ≤ a1 ∧ a1 ≤ 2000000000 ∧ 1 ≤ a2 ∧ a2 ≤ 100 ∧ 0 ≤ a3 ∧ a3 ≤ 2) ∧ (0 ≤ x10 ∧ x10 ≤ a2) ∧ x4 = drw a1 x10.toNat ∧ MT (fun k => hm (nx (s.2 6) (s.2 7)) (drwI a1 (s.2 6 2) k)) f17 (s.2 6 2) x10 ∧ x6 = sumI (newK (fun k => hm (nx (s.2 6) (s.2 7)) (drwI a1 (s.2 6 2) k))) x10.toNat ∧ x7 = maxI 0 (fun k => tl (nx (s.2 6) (s.2 7)) (drwI a1 (s.2 6 2) k)) x10.toNat ∧ ((x10 = 0 ∧ x8 = -1) ∨ (0 < x10 ∧ x8 = hm (nx (s.2 6) (s.2 7)) (drwI a1 (s.2 6 2) 0))) ∧ x9 = many (fun k => hm (nx (s.2 6) (s.2 7)) (drwI a1 (s.2 6 2) k) = hm (nx (s.2 6) (s.2 7)) (drwI a1 (s.2 6 2) 0)) x10.toNat) (c_1 : x2 ≤ x10) (c_2 : ¬ x3 = 0) (c_3 : x3 = 1) : x7 = (rEvening ((s.2 5) 0) (s.2 6) (s.2 7) a1 a2 a3) := by
  obtain ⟨ht, ha, hl⟩ := hp
  have hN := tOK_N ht
  have hg := nx_rng (s.2 6) (s.2 7)
  (try simp only [bI_0, bI_n, Classical.not_not] at *)
  (try have hq := ‹GO (s.2 6) (s.2 7) _ _ _ _›)
  (try have hq := hI.2.1)
  (try have hx := GO_at hq (x := a1) (by omega) (by omega))
  (try have hN2 : 0 < s.2 6 2 := lOK_N ht hl (by omega))
  (try have hdb := drwI_b (sd := a1) (k := x10) hN2)
  (try have hd1 := drw_s (sd := a1) (by omega) (by omega) (by omega) hI.2.2.2.2.1)
  (try have hdi := drw_i (sd := a1) (N := s.2 6 2) (k := x10) (by omega) (by omega) hN2 (by omega) rfl)
  (try simp only [hd1, hdi] at *)
  (try have hy := GO_at hq hdb.1 hdb.2)
  (try (have y1 := hy.2.1.1; have y2 := hy.1.2.1; have y3 := hy.2.1.2; have y4 := hy.1.2.2))
  (try (clear hy; simp only [y1, y2] at *))
  (try have hs := sumI_s (newK (fun k => hm (nx (s.2 6) (s.2 7)) (drwI a1 (s.2 6 2) k))) (k := x10) (by omega))
  (try have hsb := sumI_b (f := newK (fun k => hm (nx (s.2 6) (s.2 7)) (drwI a1 (s.2 6 2) k))) x10.toNat (fun i _ _ => newK_01 _ _))
  (try have hn : (f17 (hm (nx (s.2 6) (s.2 7)) (drwI a1 (s.2 6 2) x10)) = 0 → newK (fun k => hm (nx (s.2 6) (s.2 7)) (drwI a1 (s.2 6 2) k)) x10 = 1) ∧ (¬ f17 (hm (nx (s.2 6) (s.2 7)) (drwI a1 (s.2 6 2) x10)) = 0 → newK (fun k => hm (nx (s.2 6) (s.2 7)) (drwI a1 (s.2 6 2) k)) x10 = 0) := MT_new hI.2.2.2.2.2.1 y3)
  (try have hm1 : maxI 0 (fun k => tl (nx (s.2 6) (s.2 7)) (drwI a1 (s.2 6 2) k)) x10.toNat < tl (nx (s.2 6) (s.2 7)) (drwI a1 (s.2 6 2) x10) → maxI 0 (fun k => tl (nx (s.2 6) (s.2 7)) (drwI a1 (s.2 6 2) k)) (x10 + 1).toNat = tl (nx (s.2 6) (s.2 7)) (drwI a1 (s.2 6 2) x10) := max_hit (by omega))
  (try have hm2 : ¬ maxI 0 (fun k => tl (nx (s.2 6) (s.2 7)) (drwI a1 (s.2 6 2) k)) x10.toNat < tl (nx (s.2 6) (s.2 7)) (drwI a1 (s.2 6 2) x10) → maxI 0 (fun k => tl (nx (s.2 6) (s.2 7)) (drwI a1 (s.2 6 2) k)) (x10 + 1).toNat = maxI 0 (fun k => tl (nx (s.2 6) (s.2 7)) (drwI a1 (s.2 6 2) k)) x10.toNat := max_not (by omega))
  (try have hb := many_b (fun k => hm (nx (s.2 6) (s.2 7)) (drwI a1 (s.2 6 2) k) = hm (nx (s.2 6) (s.2 7)) (drwI a1 (s.2 6 2) 0)) x10.toNat)
  (try have hS1 : hm (nx (s.2 6) (s.2 7)) (drwI a1 (s.2 6 2) x10) = hm (nx (s.2 6) (s.2 7)) (drwI a1 (s.2 6 2) 0) → many (fun k => hm (nx (s.2 6) (s.2 7)) (drwI a1 (s.2 6 2) k) = hm (nx (s.2 6) (s.2 7)) (drwI a1 (s.2 6 2) 0)) (x10 + 1).toNat = many (fun k => hm (nx (s.2 6) (s.2 7)) (drwI a1 (s.2 6 2) k) = hm (nx (s.2 6) (s.2 7)) (drwI a1 (s.2 6 2) 0)) x10.toNat + 1 := fun h => many_t (by omega) h)
  (try have hS2 : ¬ hm (nx (s.2 6) (s.2 7)) (drwI a1 (s.2 6 2) x10) = hm (nx (s.2 6) (s.2 7)) (drwI a1 (s.2 6 2) 0) → many (fun k => hm (nx (s.2 6) (s.2 7)) (drwI a1 (s.2 6 2) k) = hm (nx (s.2 6) (s.2 7)) (drwI a1 (s.2 6 2) 0)) (x10 + 1).toNat = many (fun k => hm (nx (s.2 6) (s.2 7)) (drwI a1 (s.2 6 2) k) = hm (nx (s.2 6) (s.2 7)) (drwI a1 (s.2 6 2) 0)) x10.toNat := fun h => many_f (by omega) h)
  (try have hz : x10 = 0 → hm (nx (s.2 6) (s.2 7)) (drwI a1 (s.2 6 2) x10) = hm (nx (s.2 6) (s.2 7)) (drwI a1 (s.2 6 2) 0) := fun h => by rw [h])
  (try have h00 := (hm_b hg (drwI_b (sd := a1) (k := 0) hN2).1 (drwI_b (sd := a1) (k := 0) hN2).2).1)
  (try have hzz := hI.2.2.2.2.2.2.2.2.1)
  (try unfold lex3)
  (try simp only [bI_0, bI_n, Classical.not_not] at *)
  (try simp (disch := omega) only [i32_id] at *)
  first | done | omega | ((repeat' (with_reducible apply And.intro)) <;> first | assumption | rfl | omega | (exact hI.1) | (exact hI.2.1) | (exact hq) | (unfold rEvening; rw [if_neg (by omega)]) | (exact hI.2.2.1.1) | (exact MT_0 (fun z a b => hI.2.2.2.2 z a (by omega))) | (exact Or.inl ⟨rfl, rfl⟩) | (intro z h0 h1; omega) | (exact upto_s (p := fun z v => v = 0) hI.2.2.2.2 rfl) | (exact MT_s hI.2.2.2.2.2.1 (by omega)) | (unfold rEvening; rw [if_pos (by omega), if_pos (by omega), hI.2.2.2.2.2.2.1, show x10 = a2 by omega]) | (unfold rEvening; rw [if_pos (by omega), if_neg (by omega), if_pos (by omega), hI.2.2.2.2.2.2.2.1, show x10 = a2 by omega]) | (unfold rEvening; rw [if_pos (by omega), if_neg (by omega), if_neg (by omega), hI.2.2.2.2.2.2.2.2.2, show x10 = a2 by omega]) | grind [upI])
theorem vX3_evening_10 (s : MS) (a1 : Int) (a2 : Int) (a3 : Int) (hp : tOK (s.2 6) ∧ aOK (s.2 6) (s.2 7) ∧ lOK ((s.2 5) 0) (s.2 6)) (x2 : Int) (x3 : Int) (x4 : Int) (x6 : Int) (x7 : Int) (x8 : Int) (x9 : Int) (x10 : Int) (f11 : Int → Int) (f12 : Int → Int) (f13 : Int → Int) (f14 : Int → Int) (f15 : Int → Int) (f16 : Int → Int) (f17 : Int → Int) (f18 : Int → Int) (f19 : Int → Int) (k0 : Int) (k25 : Int) (k33 : Int) (k34 : Int) (hI : k0 = 0 ∧ GO (s.2 6) (s.2 7) f13 f14 f15 f16 ∧ (x2 = a2 ∧ x3 = a3 ∧ 0 < s.2 5 0 ∧ 0 ≤ a1 ∧ a1 ≤ 2000000000 ∧ 1 ≤ a2 ∧ a2 ≤ 100 ∧ 0 ≤ a3 ∧ a3 ≤ 2) ∧ (0 ≤ x10 ∧ x10 ≤ a2) ∧ x4 = drw a1 x10.toNat ∧ MT (fun k => hm (nx (s.2 6) (s.2 7)) (drwI a1 (s.2 6 2) k)) f17 (s.2 6 2) x10 ∧ x6 = sumI (newK (fun k => hm (nx (s.2 6) (s.2 7)) (drwI a1 (s.2 6 2) k))) x10.toNat ∧ x7 = maxI 0 (fun k => tl (nx (s.2 6) (s.2 7)) (drwI a1 (s.2 6 2) k)) x10.toNat ∧ ((x10 = 0 ∧ x8 = -1) ∨ (0 < x10 ∧ x8 = hm (nx (s.2 6) (s.2 7)) (drwI a1 (s.2 6 2) 0))) ∧ x9 = many (fun k => hm (nx (s.2 6) (s.2 7)) (drwI a1 (s.2 6 2) k) = hm (nx (s.2 6) (s.2 7)) (drwI a1 (s.2 6 2) 0)) x10.toNat) (c_1 : x2 ≤ x10) (c_2 : x3 = 0) : k0 = (0) := by
  obtain ⟨ht, ha, hl⟩ := hp
  have hN := tOK_N ht
  have hg := nx_rng (s.2 6) (s.2 7)
  (try simp only [bI_0, bI_n, Classical.not_not] at *)
  (try have hq := ‹GO (s.2 6) (s.2 7) _ _ _ _›)
  (try have hq := hI.2.1)
  (try have hx := GO_at hq (x := a1) (by omega) (by omega))
  (try have hN2 : 0 < s.2 6 2 := lOK_N ht hl (by omega))
  (try have hdb := drwI_b (sd := a1) (k := x10) hN2)
  (try have hd1 := drw_s (sd := a1) (by omega) (by omega) (by omega) hI.2.2.2.2.1)
  (try have hdi := drw_i (sd := a1) (N := s.2 6 2) (k := x10) (by omega) (by omega) hN2 (by omega) rfl)
  (try simp only [hd1, hdi] at *)
  (try have hy := GO_at hq hdb.1 hdb.2)
  (try (have y1 := hy.2.1.1; have y2 := hy.1.2.1; have y3 := hy.2.1.2; have y4 := hy.1.2.2))
  (try (clear hy; simp only [y1, y2] at *))
  (try have hs := sumI_s (newK (fun k => hm (nx (s.2 6) (s.2 7)) (drwI a1 (s.2 6 2) k))) (k := x10) (by omega))
  (try have hsb := sumI_b (f := newK (fun k => hm (nx (s.2 6) (s.2 7)) (drwI a1 (s.2 6 2) k))) x10.toNat (fun i _ _ => newK_01 _ _))
  (try have hn : (f17 (hm (nx (s.2 6) (s.2 7)) (drwI a1 (s.2 6 2) x10)) = 0 → newK (fun k => hm (nx (s.2 6) (s.2 7)) (drwI a1 (s.2 6 2) k)) x10 = 1) ∧ (¬ f17 (hm (nx (s.2 6) (s.2 7)) (drwI a1 (s.2 6 2) x10)) = 0 → newK (fun k => hm (nx (s.2 6) (s.2 7)) (drwI a1 (s.2 6 2) k)) x10 = 0) := MT_new hI.2.2.2.2.2.1 y3)
  (try have hm1 : maxI 0 (fun k => tl (nx (s.2 6) (s.2 7)) (drwI a1 (s.2 6 2) k)) x10.toNat < tl (nx (s.2 6) (s.2 7)) (drwI a1 (s.2 6 2) x10) → maxI 0 (fun k => tl (nx (s.2 6) (s.2 7)) (drwI a1 (s.2 6 2) k)) (x10 + 1).toNat = tl (nx (s.2 6) (s.2 7)) (drwI a1 (s.2 6 2) x10) := max_hit (by omega))
  (try have hm2 : ¬ maxI 0 (fun k => tl (nx (s.2 6) (s.2 7)) (drwI a1 (s.2 6 2) k)) x10.toNat < tl (nx (s.2 6) (s.2 7)) (drwI a1 (s.2 6 2) x10) → maxI 0 (fun k => tl (nx (s.2 6) (s.2 7)) (drwI a1 (s.2 6 2) k)) (x10 + 1).toNat = maxI 0 (fun k => tl (nx (s.2 6) (s.2 7)) (drwI a1 (s.2 6 2) k)) x10.toNat := max_not (by omega))
  (try have hb := many_b (fun k => hm (nx (s.2 6) (s.2 7)) (drwI a1 (s.2 6 2) k) = hm (nx (s.2 6) (s.2 7)) (drwI a1 (s.2 6 2) 0)) x10.toNat)
  (try have hS1 : hm (nx (s.2 6) (s.2 7)) (drwI a1 (s.2 6 2) x10) = hm (nx (s.2 6) (s.2 7)) (drwI a1 (s.2 6 2) 0) → many (fun k => hm (nx (s.2 6) (s.2 7)) (drwI a1 (s.2 6 2) k) = hm (nx (s.2 6) (s.2 7)) (drwI a1 (s.2 6 2) 0)) (x10 + 1).toNat = many (fun k => hm (nx (s.2 6) (s.2 7)) (drwI a1 (s.2 6 2) k) = hm (nx (s.2 6) (s.2 7)) (drwI a1 (s.2 6 2) 0)) x10.toNat + 1 := fun h => many_t (by omega) h)
  (try have hS2 : ¬ hm (nx (s.2 6) (s.2 7)) (drwI a1 (s.2 6 2) x10) = hm (nx (s.2 6) (s.2 7)) (drwI a1 (s.2 6 2) 0) → many (fun k => hm (nx (s.2 6) (s.2 7)) (drwI a1 (s.2 6 2) k) = hm (nx (s.2 6) (s.2 7)) (drwI a1 (s.2 6 2) 0)) (x10 + 1).toNat = many (fun k => hm (nx (s.2 6) (s.2 7)) (drwI a1 (s.2 6 2) k) = hm (nx (s.2 6) (s.2 7)) (drwI a1 (s.2 6 2) 0)) x10.toNat := fun h => many_f (by omega) h)
  (try have hz : x10 = 0 → hm (nx (s.2 6) (s.2 7)) (drwI a1 (s.2 6 2) x10) = hm (nx (s.2 6) (s.2 7)) (drwI a1 (s.2 6 2) 0) := fun h => by rw [h])
  (try have h00 := (hm_b hg (drwI_b (sd := a1) (k := 0) hN2).1 (drwI_b (sd := a1) (k := 0) hN2).2).1)
  (try have hzz := hI.2.2.2.2.2.2.2.2.1)
  (try unfold lex3)
  (try simp only [bI_0, bI_n, Classical.not_not] at *)
  (try simp (disch := omega) only [i32_id] at *)
  first | done | omega | ((repeat' (with_reducible apply And.intro)) <;> first | assumption | rfl | omega | (exact hI.1) | (exact hI.2.1) | (exact hq) | (unfold rEvening; rw [if_neg (by omega)]) | (exact hI.2.2.1.1) | (exact MT_0 (fun z a b => hI.2.2.2.2 z a (by omega))) | (exact Or.inl ⟨rfl, rfl⟩) | (intro z h0 h1; omega) | (exact upto_s (p := fun z v => v = 0) hI.2.2.2.2 rfl) | (exact MT_s hI.2.2.2.2.2.1 (by omega)) | (unfold rEvening; rw [if_pos (by omega), if_pos (by omega), hI.2.2.2.2.2.2.1, show x10 = a2 by omega]) | (unfold rEvening; rw [if_pos (by omega), if_neg (by omega), if_pos (by omega), hI.2.2.2.2.2.2.2.1, show x10 = a2 by omega]) | (unfold rEvening; rw [if_pos (by omega), if_neg (by omega), if_neg (by omega), hI.2.2.2.2.2.2.2.2.2, show x10 = a2 by omega]) | grind [upI])
theorem vX3_evening_11 (s : MS) (a1 : Int) (a2 : Int) (a3 : Int) (hp : tOK (s.2 6) ∧ aOK (s.2 6) (s.2 7) ∧ lOK ((s.2 5) 0) (s.2 6)) (x2 : Int) (x3 : Int) (x4 : Int) (x6 : Int) (x7 : Int) (x8 : Int) (x9 : Int) (x10 : Int) (f11 : Int → Int) (f12 : Int → Int) (f13 : Int → Int) (f14 : Int → Int) (f15 : Int → Int) (f16 : Int → Int) (f17 : Int → Int) (f18 : Int → Int) (f19 : Int → Int) (k0 : Int) (k25 : Int) (k33 : Int) (k34 : Int) (hI : k0 = 0 ∧ GO (s.2 6) (s.2 7) f13 f14 f15 f16 ∧ (x2 = a2 ∧ x3 = a3 ∧ 0 < s.2 5 0 ∧ 0 ≤ a1 ∧ a1 ≤ 2000000000 ∧ 1 ≤ a2 ∧ a2 ≤ 100 ∧ 0 ≤ a3 ∧ a3 ≤ 2) ∧ (0 ≤ x10 ∧ x10 ≤ a2) ∧ x4 = drw a1 x10.toNat ∧ MT (fun k => hm (nx (s.2 6) (s.2 7)) (drwI a1 (s.2 6 2) k)) f17 (s.2 6 2) x10 ∧ x6 = sumI (newK (fun k => hm (nx (s.2 6) (s.2 7)) (drwI a1 (s.2 6 2) k))) x10.toNat ∧ x7 = maxI 0 (fun k => tl (nx (s.2 6) (s.2 7)) (drwI a1 (s.2 6 2) k)) x10.toNat ∧ ((x10 = 0 ∧ x8 = -1) ∨ (0 < x10 ∧ x8 = hm (nx (s.2 6) (s.2 7)) (drwI a1 (s.2 6 2) 0))) ∧ x9 = many (fun k => hm (nx (s.2 6) (s.2 7)) (drwI a1 (s.2 6 2) k) = hm (nx (s.2 6) (s.2 7)) (drwI a1 (s.2 6 2) 0)) x10.toNat) (c_1 : x2 ≤ x10) (c_2 : x3 = 0) : x6 = (rEvening ((s.2 5) 0) (s.2 6) (s.2 7) a1 a2 a3) := by
  obtain ⟨ht, ha, hl⟩ := hp
  have hN := tOK_N ht
  have hg := nx_rng (s.2 6) (s.2 7)
  (try simp only [bI_0, bI_n, Classical.not_not] at *)
  (try have hq := ‹GO (s.2 6) (s.2 7) _ _ _ _›)
  (try have hq := hI.2.1)
  (try have hx := GO_at hq (x := a1) (by omega) (by omega))
  (try have hN2 : 0 < s.2 6 2 := lOK_N ht hl (by omega))
  (try have hdb := drwI_b (sd := a1) (k := x10) hN2)
  (try have hd1 := drw_s (sd := a1) (by omega) (by omega) (by omega) hI.2.2.2.2.1)
  (try have hdi := drw_i (sd := a1) (N := s.2 6 2) (k := x10) (by omega) (by omega) hN2 (by omega) rfl)
  (try simp only [hd1, hdi] at *)
  (try have hy := GO_at hq hdb.1 hdb.2)
  (try (have y1 := hy.2.1.1; have y2 := hy.1.2.1; have y3 := hy.2.1.2; have y4 := hy.1.2.2))
  (try (clear hy; simp only [y1, y2] at *))
  (try have hs := sumI_s (newK (fun k => hm (nx (s.2 6) (s.2 7)) (drwI a1 (s.2 6 2) k))) (k := x10) (by omega))
  (try have hsb := sumI_b (f := newK (fun k => hm (nx (s.2 6) (s.2 7)) (drwI a1 (s.2 6 2) k))) x10.toNat (fun i _ _ => newK_01 _ _))
  (try have hn : (f17 (hm (nx (s.2 6) (s.2 7)) (drwI a1 (s.2 6 2) x10)) = 0 → newK (fun k => hm (nx (s.2 6) (s.2 7)) (drwI a1 (s.2 6 2) k)) x10 = 1) ∧ (¬ f17 (hm (nx (s.2 6) (s.2 7)) (drwI a1 (s.2 6 2) x10)) = 0 → newK (fun k => hm (nx (s.2 6) (s.2 7)) (drwI a1 (s.2 6 2) k)) x10 = 0) := MT_new hI.2.2.2.2.2.1 y3)
  (try have hm1 : maxI 0 (fun k => tl (nx (s.2 6) (s.2 7)) (drwI a1 (s.2 6 2) k)) x10.toNat < tl (nx (s.2 6) (s.2 7)) (drwI a1 (s.2 6 2) x10) → maxI 0 (fun k => tl (nx (s.2 6) (s.2 7)) (drwI a1 (s.2 6 2) k)) (x10 + 1).toNat = tl (nx (s.2 6) (s.2 7)) (drwI a1 (s.2 6 2) x10) := max_hit (by omega))
  (try have hm2 : ¬ maxI 0 (fun k => tl (nx (s.2 6) (s.2 7)) (drwI a1 (s.2 6 2) k)) x10.toNat < tl (nx (s.2 6) (s.2 7)) (drwI a1 (s.2 6 2) x10) → maxI 0 (fun k => tl (nx (s.2 6) (s.2 7)) (drwI a1 (s.2 6 2) k)) (x10 + 1).toNat = maxI 0 (fun k => tl (nx (s.2 6) (s.2 7)) (drwI a1 (s.2 6 2) k)) x10.toNat := max_not (by omega))
  (try have hb := many_b (fun k => hm (nx (s.2 6) (s.2 7)) (drwI a1 (s.2 6 2) k) = hm (nx (s.2 6) (s.2 7)) (drwI a1 (s.2 6 2) 0)) x10.toNat)
  (try have hS1 : hm (nx (s.2 6) (s.2 7)) (drwI a1 (s.2 6 2) x10) = hm (nx (s.2 6) (s.2 7)) (drwI a1 (s.2 6 2) 0) → many (fun k => hm (nx (s.2 6) (s.2 7)) (drwI a1 (s.2 6 2) k) = hm (nx (s.2 6) (s.2 7)) (drwI a1 (s.2 6 2) 0)) (x10 + 1).toNat = many (fun k => hm (nx (s.2 6) (s.2 7)) (drwI a1 (s.2 6 2) k) = hm (nx (s.2 6) (s.2 7)) (drwI a1 (s.2 6 2) 0)) x10.toNat + 1 := fun h => many_t (by omega) h)
  (try have hS2 : ¬ hm (nx (s.2 6) (s.2 7)) (drwI a1 (s.2 6 2) x10) = hm (nx (s.2 6) (s.2 7)) (drwI a1 (s.2 6 2) 0) → many (fun k => hm (nx (s.2 6) (s.2 7)) (drwI a1 (s.2 6 2) k) = hm (nx (s.2 6) (s.2 7)) (drwI a1 (s.2 6 2) 0)) (x10 + 1).toNat = many (fun k => hm (nx (s.2 6) (s.2 7)) (drwI a1 (s.2 6 2) k) = hm (nx (s.2 6) (s.2 7)) (drwI a1 (s.2 6 2) 0)) x10.toNat := fun h => many_f (by omega) h)
  (try have hz : x10 = 0 → hm (nx (s.2 6) (s.2 7)) (drwI a1 (s.2 6 2) x10) = hm (nx (s.2 6) (s.2 7)) (drwI a1 (s.2 6 2) 0) := fun h => by rw [h])
  (try have h00 := (hm_b hg (drwI_b (sd := a1) (k := 0) hN2).1 (drwI_b (sd := a1) (k := 0) hN2).2).1)
  (try have hzz := hI.2.2.2.2.2.2.2.2.1)
  (try unfold lex3)
  (try simp only [bI_0, bI_n, Classical.not_not] at *)
  (try simp (disch := omega) only [i32_id] at *)
  first | done | omega | ((repeat' (with_reducible apply And.intro)) <;> first | assumption | rfl | omega | (exact hI.1) | (exact hI.2.1) | (exact hq) | (unfold rEvening; rw [if_neg (by omega)]) | (exact hI.2.2.1.1) | (exact MT_0 (fun z a b => hI.2.2.2.2 z a (by omega))) | (exact Or.inl ⟨rfl, rfl⟩) | (intro z h0 h1; omega) | (exact upto_s (p := fun z v => v = 0) hI.2.2.2.2 rfl) | (exact MT_s hI.2.2.2.2.2.1 (by omega)) | (unfold rEvening; rw [if_pos (by omega), if_pos (by omega), hI.2.2.2.2.2.2.1, show x10 = a2 by omega]) | (unfold rEvening; rw [if_pos (by omega), if_neg (by omega), if_pos (by omega), hI.2.2.2.2.2.2.2.1, show x10 = a2 by omega]) | (unfold rEvening; rw [if_pos (by omega), if_neg (by omega), if_neg (by omega), hI.2.2.2.2.2.2.2.2.2, show x10 = a2 by omega]) | grind [upI])
theorem vX3_evening_12 (s : MS) (a1 : Int) (a2 : Int) (a3 : Int) (hp : tOK (s.2 6) ∧ aOK (s.2 6) (s.2 7) ∧ lOK ((s.2 5) 0) (s.2 6)) (x2 : Int) (x3 : Int) (x4 : Int) (x6 : Int) (x7 : Int) (x8 : Int) (x9 : Int) (x10 : Int) (f11 : Int → Int) (f12 : Int → Int) (f13 : Int → Int) (f14 : Int → Int) (f15 : Int → Int) (f16 : Int → Int) (f17 : Int → Int) (f18 : Int → Int) (f19 : Int → Int) (k0 : Int) (k25 : Int) (k33 : Int) (k34 : Int) (hI : k0 = 0 ∧ GO (s.2 6) (s.2 7) f13 f14 f15 f16 ∧ (x2 = a2 ∧ x3 = a3 ∧ 0 < s.2 5 0 ∧ 0 ≤ a1 ∧ a1 ≤ 2000000000 ∧ 1 ≤ a2 ∧ a2 ≤ 100 ∧ 0 ≤ a3 ∧ a3 ≤ 2) ∧ (0 ≤ x10 ∧ x10 ≤ a2) ∧ x4 = drw a1 x10.toNat ∧ MT (fun k => hm (nx (s.2 6) (s.2 7)) (drwI a1 (s.2 6 2) k)) f17 (s.2 6 2) x10 ∧ x6 = sumI (newK (fun k => hm (nx (s.2 6) (s.2 7)) (drwI a1 (s.2 6 2) k))) x10.toNat ∧ x7 = maxI 0 (fun k => tl (nx (s.2 6) (s.2 7)) (drwI a1 (s.2 6 2) k)) x10.toNat ∧ ((x10 = 0 ∧ x8 = -1) ∨ (0 < x10 ∧ x8 = hm (nx (s.2 6) (s.2 7)) (drwI a1 (s.2 6 2) 0))) ∧ x9 = many (fun k => hm (nx (s.2 6) (s.2 7)) (drwI a1 (s.2 6 2) k) = hm (nx (s.2 6) (s.2 7)) (drwI a1 (s.2 6 2) 0)) x10.toNat) (c_1 : ¬ x2 ≤ x10) : (s.2 6 2) ≠ 0 := by
  obtain ⟨ht, ha, hl⟩ := hp
  have hN := tOK_N ht
  have hg := nx_rng (s.2 6) (s.2 7)
  (try simp only [bI_0, bI_n, Classical.not_not] at *)
  (try have hq := ‹GO (s.2 6) (s.2 7) _ _ _ _›)
  (try have hq := hI.2.1)
  (try have hx := GO_at hq (x := a1) (by omega) (by omega))
  (try have hN2 : 0 < s.2 6 2 := lOK_N ht hl (by omega))
  (try have hdb := drwI_b (sd := a1) (k := x10) hN2)
  (try have hd1 := drw_s (sd := a1) (by omega) (by omega) (by omega) hI.2.2.2.2.1)
  (try have hdi := drw_i (sd := a1) (N := s.2 6 2) (k := x10) (by omega) (by omega) hN2 (by omega) rfl)
  (try simp only [hd1, hdi] at *)
  (try have hy := GO_at hq hdb.1 hdb.2)
  (try (have y1 := hy.2.1.1; have y2 := hy.1.2.1; have y3 := hy.2.1.2; have y4 := hy.1.2.2))
  (try (clear hy; simp only [y1, y2] at *))
  (try have hs := sumI_s (newK (fun k => hm (nx (s.2 6) (s.2 7)) (drwI a1 (s.2 6 2) k))) (k := x10) (by omega))
  (try have hsb := sumI_b (f := newK (fun k => hm (nx (s.2 6) (s.2 7)) (drwI a1 (s.2 6 2) k))) x10.toNat (fun i _ _ => newK_01 _ _))
  (try have hn : (f17 (hm (nx (s.2 6) (s.2 7)) (drwI a1 (s.2 6 2) x10)) = 0 → newK (fun k => hm (nx (s.2 6) (s.2 7)) (drwI a1 (s.2 6 2) k)) x10 = 1) ∧ (¬ f17 (hm (nx (s.2 6) (s.2 7)) (drwI a1 (s.2 6 2) x10)) = 0 → newK (fun k => hm (nx (s.2 6) (s.2 7)) (drwI a1 (s.2 6 2) k)) x10 = 0) := MT_new hI.2.2.2.2.2.1 y3)
  (try have hm1 : maxI 0 (fun k => tl (nx (s.2 6) (s.2 7)) (drwI a1 (s.2 6 2) k)) x10.toNat < tl (nx (s.2 6) (s.2 7)) (drwI a1 (s.2 6 2) x10) → maxI 0 (fun k => tl (nx (s.2 6) (s.2 7)) (drwI a1 (s.2 6 2) k)) (x10 + 1).toNat = tl (nx (s.2 6) (s.2 7)) (drwI a1 (s.2 6 2) x10) := max_hit (by omega))
  (try have hm2 : ¬ maxI 0 (fun k => tl (nx (s.2 6) (s.2 7)) (drwI a1 (s.2 6 2) k)) x10.toNat < tl (nx (s.2 6) (s.2 7)) (drwI a1 (s.2 6 2) x10) → maxI 0 (fun k => tl (nx (s.2 6) (s.2 7)) (drwI a1 (s.2 6 2) k)) (x10 + 1).toNat = maxI 0 (fun k => tl (nx (s.2 6) (s.2 7)) (drwI a1 (s.2 6 2) k)) x10.toNat := max_not (by omega))
  (try have hb := many_b (fun k => hm (nx (s.2 6) (s.2 7)) (drwI a1 (s.2 6 2) k) = hm (nx (s.2 6) (s.2 7)) (drwI a1 (s.2 6 2) 0)) x10.toNat)
  (try have hS1 : hm (nx (s.2 6) (s.2 7)) (drwI a1 (s.2 6 2) x10) = hm (nx (s.2 6) (s.2 7)) (drwI a1 (s.2 6 2) 0) → many (fun k => hm (nx (s.2 6) (s.2 7)) (drwI a1 (s.2 6 2) k) = hm (nx (s.2 6) (s.2 7)) (drwI a1 (s.2 6 2) 0)) (x10 + 1).toNat = many (fun k => hm (nx (s.2 6) (s.2 7)) (drwI a1 (s.2 6 2) k) = hm (nx (s.2 6) (s.2 7)) (drwI a1 (s.2 6 2) 0)) x10.toNat + 1 := fun h => many_t (by omega) h)
  (try have hS2 : ¬ hm (nx (s.2 6) (s.2 7)) (drwI a1 (s.2 6 2) x10) = hm (nx (s.2 6) (s.2 7)) (drwI a1 (s.2 6 2) 0) → many (fun k => hm (nx (s.2 6) (s.2 7)) (drwI a1 (s.2 6 2) k) = hm (nx (s.2 6) (s.2 7)) (drwI a1 (s.2 6 2) 0)) (x10 + 1).toNat = many (fun k => hm (nx (s.2 6) (s.2 7)) (drwI a1 (s.2 6 2) k) = hm (nx (s.2 6) (s.2 7)) (drwI a1 (s.2 6 2) 0)) x10.toNat := fun h => many_f (by omega) h)
  (try have hz : x10 = 0 → hm (nx (s.2 6) (s.2 7)) (drwI a1 (s.2 6 2) x10) = hm (nx (s.2 6) (s.2 7)) (drwI a1 (s.2 6 2) 0) := fun h => by rw [h])
  (try have h00 := (hm_b hg (drwI_b (sd := a1) (k := 0) hN2).1 (drwI_b (sd := a1) (k := 0) hN2).2).1)
  (try have hzz := hI.2.2.2.2.2.2.2.2.1)
  (try unfold lex3)
  (try simp only [bI_0, bI_n, Classical.not_not] at *)
  (try simp (disch := omega) only [i32_id] at *)
  first | done | omega | ((repeat' (with_reducible apply And.intro)) <;> first | assumption | rfl | omega | (exact hI.1) | (exact hI.2.1) | (exact hq) | (unfold rEvening; rw [if_neg (by omega)]) | (exact hI.2.2.1.1) | (exact MT_0 (fun z a b => hI.2.2.2.2 z a (by omega))) | (exact Or.inl ⟨rfl, rfl⟩) | (intro z h0 h1; omega) | (exact upto_s (p := fun z v => v = 0) hI.2.2.2.2 rfl) | (exact MT_s hI.2.2.2.2.2.1 (by omega)) | (unfold rEvening; rw [if_pos (by omega), if_pos (by omega), hI.2.2.2.2.2.2.1, show x10 = a2 by omega]) | (unfold rEvening; rw [if_pos (by omega), if_neg (by omega), if_pos (by omega), hI.2.2.2.2.2.2.2.1, show x10 = a2 by omega]) | (unfold rEvening; rw [if_pos (by omega), if_neg (by omega), if_neg (by omega), hI.2.2.2.2.2.2.2.2.2, show x10 = a2 by omega]) | grind [upI])
theorem vX3_evening_13 (s : MS) (a1 : Int) (a2 : Int) (a3 : Int) (hp : tOK (s.2 6) ∧ aOK (s.2 6) (s.2 7) ∧ lOK ((s.2 5) 0) (s.2 6)) (x2 : Int) (x3 : Int) (x4 : Int) (x6 : Int) (x7 : Int) (x8 : Int) (x9 : Int) (x10 : Int) (f11 : Int → Int) (f12 : Int → Int) (f13 : Int → Int) (f14 : Int → Int) (f15 : Int → Int) (f16 : Int → Int) (f17 : Int → Int) (f18 : Int → Int) (f19 : Int → Int) (k0 : Int) (k25 : Int) (k33 : Int) (k34 : Int) (hI : k0 = 0 ∧ GO (s.2 6) (s.2 7) f13 f14 f15 f16 ∧ (x2 = a2 ∧ x3 = a3 ∧ 0 < s.2 5 0 ∧ 0 ≤ a1 ∧ a1 ≤ 2000000000 ∧ 1 ≤ a2 ∧ a2 ≤ 100 ∧ 0 ≤ a3 ∧ a3 ≤ 2) ∧ (0 ≤ x10 ∧ x10 ≤ a2) ∧ x4 = drw a1 x10.toNat ∧ MT (fun k => hm (nx (s.2 6) (s.2 7)) (drwI a1 (s.2 6 2) k)) f17 (s.2 6 2) x10 ∧ x6 = sumI (newK (fun k => hm (nx (s.2 6) (s.2 7)) (drwI a1 (s.2 6 2) k))) x10.toNat ∧ x7 = maxI 0 (fun k => tl (nx (s.2 6) (s.2 7)) (drwI a1 (s.2 6 2) k)) x10.toNat ∧ ((x10 = 0 ∧ x8 = -1) ∨ (0 < x10 ∧ x8 = hm (nx (s.2 6) (s.2 7)) (drwI a1 (s.2 6 2) 0))) ∧ x9 = many (fun k => hm (nx (s.2 6) (s.2 7)) (drwI a1 (s.2 6 2) k) = hm (nx (s.2 6) (s.2 7)) (drwI a1 (s.2 6 2) 0)) x10.toNat) (c_1 : ¬ x2 ≤ x10) (o_4 : (s.2 6 2) ≠ 0) (c_5 : ¬ x8 = (-1)) : (0 ≤ (i32 (i64 (Int.tmod (i64 (Int.tdiv (i64 (Int.tmod (i64 ((i64 (1103515245 * x4)) + 12345)) 2147483648)) 65536)) (s.2 6 2)))) ∧ (i32 (i64 (Int.tmod (i64 (Int.tdiv (i64 (Int.tmod (i64 ((i64 (1103515245 * x4)) + 12345)) 2147483648)) 65536)) (s.2 6 2)))) < 10000) := by
  obtain ⟨ht, ha, hl⟩ := hp
  have hN := tOK_N ht
  have hg := nx_rng (s.2 6) (s.2 7)
  (try simp only [bI_0, bI_n, Classical.not_not] at *)
  (try have hq := ‹GO (s.2 6) (s.2 7) _ _ _ _›)
  (try have hq := hI.2.1)
  (try have hx := GO_at hq (x := a1) (by omega) (by omega))
  (try have hN2 : 0 < s.2 6 2 := lOK_N ht hl (by omega))
  (try have hdb := drwI_b (sd := a1) (k := x10) hN2)
  (try have hd1 := drw_s (sd := a1) (by omega) (by omega) (by omega) hI.2.2.2.2.1)
  (try have hdi := drw_i (sd := a1) (N := s.2 6 2) (k := x10) (by omega) (by omega) hN2 (by omega) rfl)
  (try simp only [hd1, hdi] at *)
  (try have hy := GO_at hq hdb.1 hdb.2)
  (try (have y1 := hy.2.1.1; have y2 := hy.1.2.1; have y3 := hy.2.1.2; have y4 := hy.1.2.2))
  (try (clear hy; simp only [y1, y2] at *))
  (try have hs := sumI_s (newK (fun k => hm (nx (s.2 6) (s.2 7)) (drwI a1 (s.2 6 2) k))) (k := x10) (by omega))
  (try have hsb := sumI_b (f := newK (fun k => hm (nx (s.2 6) (s.2 7)) (drwI a1 (s.2 6 2) k))) x10.toNat (fun i _ _ => newK_01 _ _))
  (try have hn : (f17 (hm (nx (s.2 6) (s.2 7)) (drwI a1 (s.2 6 2) x10)) = 0 → newK (fun k => hm (nx (s.2 6) (s.2 7)) (drwI a1 (s.2 6 2) k)) x10 = 1) ∧ (¬ f17 (hm (nx (s.2 6) (s.2 7)) (drwI a1 (s.2 6 2) x10)) = 0 → newK (fun k => hm (nx (s.2 6) (s.2 7)) (drwI a1 (s.2 6 2) k)) x10 = 0) := MT_new hI.2.2.2.2.2.1 y3)
  (try have hm1 : maxI 0 (fun k => tl (nx (s.2 6) (s.2 7)) (drwI a1 (s.2 6 2) k)) x10.toNat < tl (nx (s.2 6) (s.2 7)) (drwI a1 (s.2 6 2) x10) → maxI 0 (fun k => tl (nx (s.2 6) (s.2 7)) (drwI a1 (s.2 6 2) k)) (x10 + 1).toNat = tl (nx (s.2 6) (s.2 7)) (drwI a1 (s.2 6 2) x10) := max_hit (by omega))
  (try have hm2 : ¬ maxI 0 (fun k => tl (nx (s.2 6) (s.2 7)) (drwI a1 (s.2 6 2) k)) x10.toNat < tl (nx (s.2 6) (s.2 7)) (drwI a1 (s.2 6 2) x10) → maxI 0 (fun k => tl (nx (s.2 6) (s.2 7)) (drwI a1 (s.2 6 2) k)) (x10 + 1).toNat = maxI 0 (fun k => tl (nx (s.2 6) (s.2 7)) (drwI a1 (s.2 6 2) k)) x10.toNat := max_not (by omega))
  (try have hb := many_b (fun k => hm (nx (s.2 6) (s.2 7)) (drwI a1 (s.2 6 2) k) = hm (nx (s.2 6) (s.2 7)) (drwI a1 (s.2 6 2) 0)) x10.toNat)
  (try have hS1 : hm (nx (s.2 6) (s.2 7)) (drwI a1 (s.2 6 2) x10) = hm (nx (s.2 6) (s.2 7)) (drwI a1 (s.2 6 2) 0) → many (fun k => hm (nx (s.2 6) (s.2 7)) (drwI a1 (s.2 6 2) k) = hm (nx (s.2 6) (s.2 7)) (drwI a1 (s.2 6 2) 0)) (x10 + 1).toNat = many (fun k => hm (nx (s.2 6) (s.2 7)) (drwI a1 (s.2 6 2) k) = hm (nx (s.2 6) (s.2 7)) (drwI a1 (s.2 6 2) 0)) x10.toNat + 1 := fun h => many_t (by omega) h)
  (try have hS2 : ¬ hm (nx (s.2 6) (s.2 7)) (drwI a1 (s.2 6 2) x10) = hm (nx (s.2 6) (s.2 7)) (drwI a1 (s.2 6 2) 0) → many (fun k => hm (nx (s.2 6) (s.2 7)) (drwI a1 (s.2 6 2) k) = hm (nx (s.2 6) (s.2 7)) (drwI a1 (s.2 6 2) 0)) (x10 + 1).toNat = many (fun k => hm (nx (s.2 6) (s.2 7)) (drwI a1 (s.2 6 2) k) = hm (nx (s.2 6) (s.2 7)) (drwI a1 (s.2 6 2) 0)) x10.toNat := fun h => many_f (by omega) h)
  (try have hz : x10 = 0 → hm (nx (s.2 6) (s.2 7)) (drwI a1 (s.2 6 2) x10) = hm (nx (s.2 6) (s.2 7)) (drwI a1 (s.2 6 2) 0) := fun h => by rw [h])
  (try have h00 := (hm_b hg (drwI_b (sd := a1) (k := 0) hN2).1 (drwI_b (sd := a1) (k := 0) hN2).2).1)
  (try have hzz := hI.2.2.2.2.2.2.2.2.1)
  (try unfold lex3)
  (try simp only [bI_0, bI_n, Classical.not_not] at *)
  (try simp (disch := omega) only [i32_id] at *)
  first | done | omega | ((repeat' (with_reducible apply And.intro)) <;> first | assumption | rfl | omega | (exact hI.1) | (exact hI.2.1) | (exact hq) | (unfold rEvening; rw [if_neg (by omega)]) | (exact hI.2.2.1.1) | (exact MT_0 (fun z a b => hI.2.2.2.2 z a (by omega))) | (exact Or.inl ⟨rfl, rfl⟩) | (intro z h0 h1; omega) | (exact upto_s (p := fun z v => v = 0) hI.2.2.2.2 rfl) | (exact MT_s hI.2.2.2.2.2.1 (by omega)) | (unfold rEvening; rw [if_pos (by omega), if_pos (by omega), hI.2.2.2.2.2.2.1, show x10 = a2 by omega]) | (unfold rEvening; rw [if_pos (by omega), if_neg (by omega), if_pos (by omega), hI.2.2.2.2.2.2.2.1, show x10 = a2 by omega]) | (unfold rEvening; rw [if_pos (by omega), if_neg (by omega), if_neg (by omega), hI.2.2.2.2.2.2.2.2.2, show x10 = a2 by omega]) | grind [upI])
theorem vX3_evening_14 (s : MS) (a1 : Int) (a2 : Int) (a3 : Int) (hp : tOK (s.2 6) ∧ aOK (s.2 6) (s.2 7) ∧ lOK ((s.2 5) 0) (s.2 6)) (x2 : Int) (x3 : Int) (x4 : Int) (x6 : Int) (x7 : Int) (x8 : Int) (x9 : Int) (x10 : Int) (f11 : Int → Int) (f12 : Int → Int) (f13 : Int → Int) (f14 : Int → Int) (f15 : Int → Int) (f16 : Int → Int) (f17 : Int → Int) (f18 : Int → Int) (f19 : Int → Int) (k0 : Int) (k25 : Int) (k33 : Int) (k34 : Int) (hI : k0 = 0 ∧ GO (s.2 6) (s.2 7) f13 f14 f15 f16 ∧ (x2 = a2 ∧ x3 = a3 ∧ 0 < s.2 5 0 ∧ 0 ≤ a1 ∧ a1 ≤ 2000000000 ∧ 1 ≤ a2 ∧ a2 ≤ 100 ∧ 0 ≤ a3 ∧ a3 ≤ 2) ∧ (0 ≤ x10 ∧ x10 ≤ a2) ∧ x4 = drw a1 x10.toNat ∧ MT (fun k => hm (nx (s.2 6) (s.2 7)) (drwI a1 (s.2 6 2) k)) f17 (s.2 6 2) x10 ∧ x6 = sumI (newK (fun k => hm (nx (s.2 6) (s.2 7)) (drwI a1 (s.2 6 2) k))) x10.toNat ∧ x7 = maxI 0 (fun k => tl (nx (s.2 6) (s.2 7)) (drwI a1 (s.2 6 2) k)) x10.toNat ∧ ((x10 = 0 ∧ x8 = -1) ∨ (0 < x10 ∧ x8 = hm (nx (s.2 6) (s.2 7)) (drwI a1 (s.2 6 2) 0))) ∧ x9 = many (fun k => hm (nx (s.2 6) (s.2 7)) (drwI a1 (s.2 6 2) k) = hm (nx (s.2 6) (s.2 7)) (drwI a1 (s.2 6 2) 0)) x10.toNat) (c_1 : ¬ x2 ≤ x10) (o_4 : (s.2 6 2) ≠ 0) (c_5 : ¬ x8 = (-1)) (o_6 : (0 ≤ (i32 (i64 (Int.tmod (i64 (Int.tdiv (i64 (Int.tmod (i64 ((i64 (1103515245 * x4)) + 12345)) 2147483648)) 65536)) (s.2 6 2)))) ∧ (i32 (i64 (Int.tmod (i64 (Int.tdiv (i64 (Int.tmod (i64 ((i64 (1103515245 * x4)) + 12345)) 2147483648)) 65536)) (s.2 6 2)))) < 10000)) : (0 ≤ (f15 (i32 (i64 (Int.tmod (i64 (Int.tdiv (i64 (Int.tmod (i64 ((i64 (1103515245 * x4)) + 12345)) 2147483648)) 65536)) (s.2 6 2))))) ∧ (f15 (i32 (i64 (Int.tmod (i64 (Int.tdiv (i64 (Int.tmod (i64 ((i64 (1103515245 * x4)) + 12345)) 2147483648)) 65536)) (s.2 6 2))))) < 10000) := by
  obtain ⟨ht, ha, hl⟩ := hp
  have hN := tOK_N ht
  have hg := nx_rng (s.2 6) (s.2 7)
  (try simp only [bI_0, bI_n, Classical.not_not] at *)
  (try have hq := ‹GO (s.2 6) (s.2 7) _ _ _ _›)
  (try have hq := hI.2.1)
  (try have hx := GO_at hq (x := a1) (by omega) (by omega))
  (try have hN2 : 0 < s.2 6 2 := lOK_N ht hl (by omega))
  (try have hdb := drwI_b (sd := a1) (k := x10) hN2)
  (try have hd1 := drw_s (sd := a1) (by omega) (by omega) (by omega) hI.2.2.2.2.1)
  (try have hdi := drw_i (sd := a1) (N := s.2 6 2) (k := x10) (by omega) (by omega) hN2 (by omega) rfl)
  (try simp only [hd1, hdi] at *)
  (try have hy := GO_at hq hdb.1 hdb.2)
  (try (have y1 := hy.2.1.1; have y2 := hy.1.2.1; have y3 := hy.2.1.2; have y4 := hy.1.2.2))
  (try (clear hy; simp only [y1, y2] at *))
  (try have hs := sumI_s (newK (fun k => hm (nx (s.2 6) (s.2 7)) (drwI a1 (s.2 6 2) k))) (k := x10) (by omega))
  (try have hsb := sumI_b (f := newK (fun k => hm (nx (s.2 6) (s.2 7)) (drwI a1 (s.2 6 2) k))) x10.toNat (fun i _ _ => newK_01 _ _))
  (try have hn : (f17 (hm (nx (s.2 6) (s.2 7)) (drwI a1 (s.2 6 2) x10)) = 0 → newK (fun k => hm (nx (s.2 6) (s.2 7)) (drwI a1 (s.2 6 2) k)) x10 = 1) ∧ (¬ f17 (hm (nx (s.2 6) (s.2 7)) (drwI a1 (s.2 6 2) x10)) = 0 → newK (fun k => hm (nx (s.2 6) (s.2 7)) (drwI a1 (s.2 6 2) k)) x10 = 0) := MT_new hI.2.2.2.2.2.1 y3)
  (try have hm1 : maxI 0 (fun k => tl (nx (s.2 6) (s.2 7)) (drwI a1 (s.2 6 2) k)) x10.toNat < tl (nx (s.2 6) (s.2 7)) (drwI a1 (s.2 6 2) x10) → maxI 0 (fun k => tl (nx (s.2 6) (s.2 7)) (drwI a1 (s.2 6 2) k)) (x10 + 1).toNat = tl (nx (s.2 6) (s.2 7)) (drwI a1 (s.2 6 2) x10) := max_hit (by omega))
  (try have hm2 : ¬ maxI 0 (fun k => tl (nx (s.2 6) (s.2 7)) (drwI a1 (s.2 6 2) k)) x10.toNat < tl (nx (s.2 6) (s.2 7)) (drwI a1 (s.2 6 2) x10) → maxI 0 (fun k => tl (nx (s.2 6) (s.2 7)) (drwI a1 (s.2 6 2) k)) (x10 + 1).toNat = maxI 0 (fun k => tl (nx (s.2 6) (s.2 7)) (drwI a1 (s.2 6 2) k)) x10.toNat := max_not (by omega))
  (try have hb := many_b (fun k => hm (nx (s.2 6) (s.2 7)) (drwI a1 (s.2 6 2) k) = hm (nx (s.2 6) (s.2 7)) (drwI a1 (s.2 6 2) 0)) x10.toNat)
  (try have hS1 : hm (nx (s.2 6) (s.2 7)) (drwI a1 (s.2 6 2) x10) = hm (nx (s.2 6) (s.2 7)) (drwI a1 (s.2 6 2) 0) → many (fun k => hm (nx (s.2 6) (s.2 7)) (drwI a1 (s.2 6 2) k) = hm (nx (s.2 6) (s.2 7)) (drwI a1 (s.2 6 2) 0)) (x10 + 1).toNat = many (fun k => hm (nx (s.2 6) (s.2 7)) (drwI a1 (s.2 6 2) k) = hm (nx (s.2 6) (s.2 7)) (drwI a1 (s.2 6 2) 0)) x10.toNat + 1 := fun h => many_t (by omega) h)
  (try have hS2 : ¬ hm (nx (s.2 6) (s.2 7)) (drwI a1 (s.2 6 2) x10) = hm (nx (s.2 6) (s.2 7)) (drwI a1 (s.2 6 2) 0) → many (fun k => hm (nx (s.2 6) (s.2 7)) (drwI a1 (s.2 6 2) k) = hm (nx (s.2 6) (s.2 7)) (drwI a1 (s.2 6 2) 0)) (x10 + 1).toNat = many (fun k => hm (nx (s.2 6) (s.2 7)) (drwI a1 (s.2 6 2) k) = hm (nx (s.2 6) (s.2 7)) (drwI a1 (s.2 6 2) 0)) x10.toNat := fun h => many_f (by omega) h)
  (try have hz : x10 = 0 → hm (nx (s.2 6) (s.2 7)) (drwI a1 (s.2 6 2) x10) = hm (nx (s.2 6) (s.2 7)) (drwI a1 (s.2 6 2) 0) := fun h => by rw [h])
  (try have h00 := (hm_b hg (drwI_b (sd := a1) (k := 0) hN2).1 (drwI_b (sd := a1) (k := 0) hN2).2).1)
  (try have hzz := hI.2.2.2.2.2.2.2.2.1)
  (try unfold lex3)
  (try simp only [bI_0, bI_n, Classical.not_not] at *)
  (try simp (disch := omega) only [i32_id] at *)
  first | done | omega | ((repeat' (with_reducible apply And.intro)) <;> first | assumption | rfl | omega | (exact hI.1) | (exact hI.2.1) | (exact hq) | (unfold rEvening; rw [if_neg (by omega)]) | (exact hI.2.2.1.1) | (exact MT_0 (fun z a b => hI.2.2.2.2 z a (by omega))) | (exact Or.inl ⟨rfl, rfl⟩) | (intro z h0 h1; omega) | (exact upto_s (p := fun z v => v = 0) hI.2.2.2.2 rfl) | (exact MT_s hI.2.2.2.2.2.1 (by omega)) | (unfold rEvening; rw [if_pos (by omega), if_pos (by omega), hI.2.2.2.2.2.2.1, show x10 = a2 by omega]) | (unfold rEvening; rw [if_pos (by omega), if_neg (by omega), if_pos (by omega), hI.2.2.2.2.2.2.2.1, show x10 = a2 by omega]) | (unfold rEvening; rw [if_pos (by omega), if_neg (by omega), if_neg (by omega), hI.2.2.2.2.2.2.2.2.2, show x10 = a2 by omega]) | grind [upI])
theorem vX3_evening_15 (s : MS) (a1 : Int) (a2 : Int) (a3 : Int) (hp : tOK (s.2 6) ∧ aOK (s.2 6) (s.2 7) ∧ lOK ((s.2 5) 0) (s.2 6)) (x2 : Int) (x3 : Int) (x4 : Int) (x6 : Int) (x7 : Int) (x8 : Int) (x9 : Int) (x10 : Int) (f11 : Int → Int) (f12 : Int → Int) (f13 : Int → Int) (f14 : Int → Int) (f15 : Int → Int) (f16 : Int → Int) (f17 : Int → Int) (f18 : Int → Int) (f19 : Int → Int) (k0 : Int) (k25 : Int) (k33 : Int) (k34 : Int) (hI : k0 = 0 ∧ GO (s.2 6) (s.2 7) f13 f14 f15 f16 ∧ (x2 = a2 ∧ x3 = a3 ∧ 0 < s.2 5 0 ∧ 0 ≤ a1 ∧ a1 ≤ 2000000000 ∧ 1 ≤ a2 ∧ a2 ≤ 100 ∧ 0 ≤ a3 ∧ a3 ≤ 2) ∧ (0 ≤ x10 ∧ x10 ≤ a2) ∧ x4 = drw a1 x10.toNat ∧ MT (fun k => hm (nx (s.2 6) (s.2 7)) (drwI a1 (s.2 6 2) k)) f17 (s.2 6 2) x10 ∧ x6 = sumI (newK (fun k => hm (nx (s.2 6) (s.2 7)) (drwI a1 (s.2 6 2) k))) x10.toNat ∧ x7 = maxI 0 (fun k => tl (nx (s.2 6) (s.2 7)) (drwI a1 (s.2 6 2) k)) x10.toNat ∧ ((x10 = 0 ∧ x8 = -1) ∨ (0 < x10 ∧ x8 = hm (nx (s.2 6) (s.2 7)) (drwI a1 (s.2 6 2) 0))) ∧ x9 = many (fun k => hm (nx (s.2 6) (s.2 7)) (drwI a1 (s.2 6 2) k) = hm (nx (s.2 6) (s.2 7)) (drwI a1 (s.2 6 2) 0)) x10.toNat) (c_1 : ¬ x2 ≤ x10) (o_4 : (s.2 6 2) ≠ 0) (c_5 : ¬ x8 = (-1)) (o_6 : (0 ≤ (i32 (i64 (Int.tmod (i64 (Int.tdiv (i64 (Int.tmod (i64 ((i64 (1103515245 * x4)) + 12345)) 2147483648)) 65536)) (s.2 6 2)))) ∧ (i32 (i64 (Int.tmod (i64 (Int.tdiv (i64 (Int.tmod (i64 ((i64 (1103515245 * x4)) + 12345)) 2147483648)) 65536)) (s.2 6 2)))) < 10000)) (o_7 : (0 ≤ (f15 (i32 (i64 (Int.tmod (i64 (Int.tdiv (i64 (Int.tmod (i64 ((i64 (1103515245 * x4)) + 12345)) 2147483648)) 65536)) (s.2 6 2))))) ∧ (f15 (i32 (i64 (Int.tmod (i64 (Int.tdiv (i64 (Int.tmod (i64 ((i64 (1103515245 * x4)) + 12345)) 2147483648)) 65536)) (s.2 6 2))))) < 10000)) (c_8 : ¬ (f17 (f15 (i32 (i64 (Int.tmod (i64 (Int.tdiv (i64 (Int.tmod (i64 ((i64 (1103515245 * x4)) + 12345)) 2147483648)) 65536)) (s.2 6 2)))))) = 0) (c_9 : (f14 (i32 (i64 (Int.tmod (i64 (Int.tdiv (i64 (Int.tmod (i64 ((i64 (1103515245 * x4)) + 12345)) 2147483648)) 65536)) (s.2 6 2))))) ≤ x7) (c_10 : ¬ (f15 (i32 (i64 (Int.tmod (i64 (Int.tdiv (i64 (Int.tmod (i64 ((i64 (1103515245 * x4)) + 12345)) 2147483648)) 65536)) (s.2 6 2))))) = x8) : k0 = 0 ∧ GO (s.2 6) (s.2 7) f13 f14 f15 f16 ∧ (x2 = a2 ∧ x3 = a3 ∧ 0 < s.2 5 0 ∧ 0 ≤ a1 ∧ a1 ≤ 2000000000 ∧ 1 ≤ a2 ∧ a2 ≤ 100 ∧ 0 ≤ a3 ∧ a3 ≤ 2) ∧ (0 ≤ (i32 (x10 + 1)) ∧ (i32 (x10 + 1)) ≤ a2) ∧ (i64 (Int.tmod (i64 ((i64 (1103515245 * x4)) + 12345)) 2147483648)) = drw a1 (i32 (x10 + 1)).toNat ∧ MT (fun k => hm (nx (s.2 6) (s.2 7)) (drwI a1 (s.2 6 2) k)) (upI f17 (f15 (i32 (i64 (Int.tmod (i64 (Int.tdiv (i64 (Int.tmod (i64 ((i64 (1103515245 * x4)) + 12345)) 2147483648)) 65536)) (s.2 6 2))))) 1) (s.2 6 2) (i32 (x10 + 1)) ∧ (i32 (x6 + 0)) = sumI (newK (fun k => hm (nx (s.2 6) (s.2 7)) (drwI a1 (s.2 6 2) k))) (i32 (x10 + 1)).toNat ∧ x7 = maxI 0 (fun k => tl (nx (s.2 6) (s.2 7)) (drwI a1 (s.2 6 2) k)) (i32 (x10 + 1)).toNat ∧ (((i32 (x10 + 1)) = 0 ∧ x8 = -1) ∨ (0 < (i32 (x10 + 1)) ∧ x8 = hm (nx (s.2 6) (s.2 7)) (drwI a1 (s.2 6 2) 0))) ∧ (i32 (x9 + 0)) = many (fun k => hm (nx (s.2 6) (s.2 7)) (drwI a1 (s.2 6 2) k) = hm (nx (s.2 6) (s.2 7)) (drwI a1 (s.2 6 2) 0)) (i32 (x10 + 1)).toNat := by
  obtain ⟨ht, ha, hl⟩ := hp
  have hN := tOK_N ht
  have hg := nx_rng (s.2 6) (s.2 7)
  (try simp only [bI_0, bI_n, Classical.not_not] at *)
  (try have hq := ‹GO (s.2 6) (s.2 7) _ _ _ _›)
  (try have hq := hI.2.1)
  (try have hx := GO_at hq (x := a1) (by omega) (by omega))
  (try have hN2 : 0 < s.2 6 2 := lOK_N ht hl (by omega))
  (try have hdb := drwI_b (sd := a1) (k := x10) hN2)
  (try have hd1 := drw_s (sd := a1) (by omega) (by omega) (by omega) hI.2.2.2.2.1)
  (try have hdi := drw_i (sd := a1) (N := s.2 6 2) (k := x10) (by omega) (by omega) hN2 (by omega) rfl)
  (try simp only [hd1, hdi] at *)
  (try have hy := GO_at hq hdb.1 hdb.2)
  (try (have y1 := hy.2.1.1; have y2 := hy.1.2.1; have y3 := hy.2.1.2; have y4 := hy.1.2.2))
  (try (clear hy; simp only [y1, y2] at *))
  (try have hs := sumI_s (newK (fun k => hm (nx (s.2 6) (s.2 7)) (drwI a1 (s.2 6 2) k))) (k := x10) (by omega))
  (try have hsb := sumI_b (f := newK (fun k => hm (nx (s.2 6) (s.2 7)) (drwI a1 (s.2 6 2) k))) x10.toNat (fun i _ _ => newK_01 _ _))
  (try have hn : (f17 (hm (nx (s.2 6) (s.2 7)) (drwI a1 (s.2 6 2) x10)) = 0 → newK (fun k => hm (nx (s.2 6) (s.2 7)) (drwI a1 (s.2 6 2) k)) x10 = 1) ∧ (¬ f17 (hm (nx (s.2 6) (s.2 7)) (drwI a1 (s.2 6 2) x10)) = 0 → newK (fun k => hm (nx (s.2 6) (s.2 7)) (drwI a1 (s.2 6 2) k)) x10 = 0) := MT_new hI.2.2.2.2.2.1 y3)
  (try have hm1 : maxI 0 (fun k => tl (nx (s.2 6) (s.2 7)) (drwI a1 (s.2 6 2) k)) x10.toNat < tl (nx (s.2 6) (s.2 7)) (drwI a1 (s.2 6 2) x10) → maxI 0 (fun k => tl (nx (s.2 6) (s.2 7)) (drwI a1 (s.2 6 2) k)) (x10 + 1).toNat = tl (nx (s.2 6) (s.2 7)) (drwI a1 (s.2 6 2) x10) := max_hit (by omega))
  (try have hm2 : ¬ maxI 0 (fun k => tl (nx (s.2 6) (s.2 7)) (drwI a1 (s.2 6 2) k)) x10.toNat < tl (nx (s.2 6) (s.2 7)) (drwI a1 (s.2 6 2) x10) → maxI 0 (fun k => tl (nx (s.2 6) (s.2 7)) (drwI a1 (s.2 6 2) k)) (x10 + 1).toNat = maxI 0 (fun k => tl (nx (s.2 6) (s.2 7)) (drwI a1 (s.2 6 2) k)) x10.toNat := max_not (by omega))
  (try have hb := many_b (fun k => hm (nx (s.2 6) (s.2 7)) (drwI a1 (s.2 6 2) k) = hm (nx (s.2 6) (s.2 7)) (drwI a1 (s.2 6 2) 0)) x10.toNat)
  (try have hS1 : hm (nx (s.2 6) (s.2 7)) (drwI a1 (s.2 6 2) x10) = hm (nx (s.2 6) (s.2 7)) (drwI a1 (s.2 6 2) 0) → many (fun k => hm (nx (s.2 6) (s.2 7)) (drwI a1 (s.2 6 2) k) = hm (nx (s.2 6) (s.2 7)) (drwI a1 (s.2 6 2) 0)) (x10 + 1).toNat = many (fun k => hm (nx (s.2 6) (s.2 7)) (drwI a1 (s.2 6 2) k) = hm (nx (s.2 6) (s.2 7)) (drwI a1 (s.2 6 2) 0)) x10.toNat + 1 := fun h => many_t (by omega) h)
  (try have hS2 : ¬ hm (nx (s.2 6) (s.2 7)) (drwI a1 (s.2 6 2) x10) = hm (nx (s.2 6) (s.2 7)) (drwI a1 (s.2 6 2) 0) → many (fun k => hm (nx (s.2 6) (s.2 7)) (drwI a1 (s.2 6 2) k) = hm (nx (s.2 6) (s.2 7)) (drwI a1 (s.2 6 2) 0)) (x10 + 1).toNat = many (fun k => hm (nx (s.2 6) (s.2 7)) (drwI a1 (s.2 6 2) k) = hm (nx (s.2 6) (s.2 7)) (drwI a1 (s.2 6 2) 0)) x10.toNat := fun h => many_f (by omega) h)
  (try have hz : x10 = 0 → hm (nx (s.2 6) (s.2 7)) (drwI a1 (s.2 6 2) x10) = hm (nx (s.2 6) (s.2 7)) (drwI a1 (s.2 6 2) 0) := fun h => by rw [h])
  (try have h00 := (hm_b hg (drwI_b (sd := a1) (k := 0) hN2).1 (drwI_b (sd := a1) (k := 0) hN2).2).1)
  (try have hzz := hI.2.2.2.2.2.2.2.2.1)
  (try unfold lex3)
  (try simp only [bI_0, bI_n, Classical.not_not] at *)
  (try simp (disch := omega) only [i32_id] at *)
  first | done | omega | ((repeat' (with_reducible apply And.intro)) <;> first | assumption | rfl | omega | (exact hI.1) | (exact hI.2.1) | (exact hq) | (unfold rEvening; rw [if_neg (by omega)]) | (exact hI.2.2.1.1) | (exact MT_0 (fun z a b => hI.2.2.2.2 z a (by omega))) | (exact Or.inl ⟨rfl, rfl⟩) | (intro z h0 h1; omega) | (exact upto_s (p := fun z v => v = 0) hI.2.2.2.2 rfl) | (exact MT_s hI.2.2.2.2.2.1 (by omega)) | (unfold rEvening; rw [if_pos (by omega), if_pos (by omega), hI.2.2.2.2.2.2.1, show x10 = a2 by omega]) | (unfold rEvening; rw [if_pos (by omega), if_neg (by omega), if_pos (by omega), hI.2.2.2.2.2.2.2.1, show x10 = a2 by omega]) | (unfold rEvening; rw [if_pos (by omega), if_neg (by omega), if_neg (by omega), hI.2.2.2.2.2.2.2.2.2, show x10 = a2 by omega]) | grind [upI])
theorem vX3_evening_16 (s : MS) (a1 : Int) (a2 : Int) (a3 : Int) (hp : tOK (s.2 6) ∧ aOK (s.2 6) (s.2 7) ∧ lOK ((s.2 5) 0) (s.2 6)) (x2 : Int) (x3 : Int) (x4 : Int) (x6 : Int) (x7 : Int) (x8 : Int) (x9 : Int) (x10 : Int) (f11 : Int → Int) (f12 : Int → Int) (f13 : Int → Int) (f14 : Int → Int) (f15 : Int → Int) (f16 : Int → Int) (f17 : Int → Int) (f18 : Int → Int) (f19 : Int → Int) (k0 : Int) (k25 : Int) (k33 : Int) (k34 : Int) (hI : k0 = 0 ∧ GO (s.2 6) (s.2 7) f13 f14 f15 f16 ∧ (x2 = a2 ∧ x3 = a3 ∧ 0 < s.2 5 0 ∧ 0 ≤ a1 ∧ a1 ≤ 2000000000 ∧ 1 ≤ a2 ∧ a2 ≤ 100 ∧ 0 ≤ a3 ∧ a3 ≤ 2) ∧ (0 ≤ x10 ∧ x10 ≤ a2) ∧ x4 = drw a1 x10.toNat ∧ MT (fun k => hm (nx (s.2 6) (s.2 7)) (drwI a1 (s.2 6 2) k)) f17 (s.2 6 2) x10 ∧ x6 = sumI (newK (fun k => hm (nx (s.2 6) (s.2 7)) (drwI a1 (s.2 6 2) k))) x10.toNat ∧ x7 = maxI 0 (fun k => tl (nx (s.2 6) (s.2 7)) (drwI a1 (s.2 6 2) k)) x10.toNat ∧ ((x10 = 0 ∧ x8 = -1) ∨ (0 < x10 ∧ x8 = hm (nx (s.2 6) (s.2 7)) (drwI a1 (s.2 6 2) 0))) ∧ x9 = many (fun k => hm (nx (s.2 6) (s.2 7)) (drwI a1 (s.2 6 2) k) = hm (nx (s.2 6) (s.2 7)) (drwI a1 (s.2 6 2) 0)) x10.toNat) (c_1 : ¬ x2 ≤ x10) (o_4 : (s.2 6 2) ≠ 0) (c_5 : ¬ x8 = (-1)) (o_6 : (0 ≤ (i32 (i64 (Int.tmod (i64 (Int.tdiv (i64 (Int.tmod (i64 ((i64 (1103515245 * x4)) + 12345)) 2147483648)) 65536)) (s.2 6 2)))) ∧ (i32 (i64 (Int.tmod (i64 (Int.tdiv (i64 (Int.tmod (i64 ((i64 (1103515245 * x4)) + 12345)) 2147483648)) 65536)) (s.2 6 2)))) < 10000)) (o_7 : (0 ≤ (f15 (i32 (i64 (Int.tmod (i64 (Int.tdiv (i64 (Int.tmod (i64 ((i64 (1103515245 * x4)) + 12345)) 2147483648)) 65536)) (s.2 6 2))))) ∧ (f15 (i32 (i64 (Int.tmod (i64 (Int.tdiv (i64 (Int.tmod (i64 ((i64 (1103515245 * x4)) + 12345)) 2147483648)) 65536)) (s.2 6 2))))) < 10000)) (c_8 : ¬ (f17 (f15 (i32 (i64 (Int.tmod (i64 (Int.tdiv (i64 (Int.tmod (i64 ((i64 (1103515245 * x4)) + 12345)) 2147483648)) 65536)) (s.2 6 2)))))) = 0) (c_9 : (f14 (i32 (i64 (Int.tmod (i64 (Int.tdiv (i64 (Int.tmod (i64 ((i64 (1103515245 * x4)) + 12345)) 2147483648)) 65536)) (s.2 6 2))))) ≤ x7) (c_10 : ¬ (f15 (i32 (i64 (Int.tmod (i64 (Int.tdiv (i64 (Int.tmod (i64 ((i64 (1103515245 * x4)) + 12345)) 2147483648)) 65536)) (s.2 6 2))))) = x8) : lex3 0 0 ((a2 - (i32 (x10 + 1))).toNat) 0 0 ((a2 - x10).toNat) := by
  obtain ⟨ht, ha, hl⟩ := hp
  have hN := tOK_N ht
  have hg := nx_rng (s.2 6) (s.2 7)
  (try simp only [bI_0, bI_n, Classical.not_not] at *)
  (try have hq := ‹GO (s.2 6) (s.2 7) _ _ _ _›)
  (try have hq := hI.2.1)
  (try have hx := GO_at hq (x := a1) (by omega) (by omega))
  (try have hN2 : 0 < s.2 6 2 := lOK_N ht hl (by omega))
  (try have hdb := drwI_b (sd := a1) (k := x10) hN2)
  (try have hd1 := drw_s (sd := a1) (by omega) (by omega) (by omega) hI.2.2.2.2.1)
  (try have hdi := drw_i (sd := a1) (N := s.2 6 2) (k := x10) (by omega) (by omega) hN2 (by omega) rfl)
  (try simp only [hd1, hdi] at *)
  (try have hy := GO_at hq hdb.1 hdb.2)
  (try (have y1 := hy.2.1.1; have y2 := hy.1.2.1; have y3 := hy.2.1.2; have y4 := hy.1.2.2))
  (try (clear hy; simp only [y1, y2] at *))
  (try have hs := sumI_s (newK (fun k => hm (nx (s.2 6) (s.2 7)) (drwI a1 (s.2 6 2) k))) (k := x10) (by omega))
  (try have hsb := sumI_b (f := newK (fun k => hm (nx (s.2 6) (s.2 7)) (drwI a1 (s.2 6 2) k))) x10.toNat (fun i _ _ => newK_01 _ _))
  (try have hn : (f17 (hm (nx (s.2 6) (s.2 7)) (drwI a1 (s.2 6 2) x10)) = 0 → newK (fun k => hm (nx (s.2 6) (s.2 7)) (drwI a1 (s.2 6 2) k)) x10 = 1) ∧ (¬ f17 (hm (nx (s.2 6) (s.2 7)) (drwI a1 (s.2 6 2) x10)) = 0 → newK (fun k => hm (nx (s.2 6) (s.2 7)) (drwI a1 (s.2 6 2) k)) x10 = 0) := MT_new hI.2.2.2.2.2.1 y3)
  (try have hm1 : maxI 0 (fun k => tl (nx (s.2 6) (s.2 7)) (drwI a1 (s.2 6 2) k)) x10.toNat < tl (nx (s.2 6) (s.2 7)) (drwI a1 (s.2 6 2) x10) → maxI 0 (fun k => tl (nx (s.2 6) (s.2 7)) (drwI a1 (s.2 6 2) k)) (x10 + 1).toNat = tl (nx (s.2 6) (s.2 7)) (drwI a1 (s.2 6 2) x10) := max_hit (by omega))
  (try have hm2 : ¬ maxI 0 (fun k => tl (nx (s.2 6) (s.2 7)) (drwI a1 (s.2 6 2) k)) x10.toNat < tl (nx (s.2 6) (s.2 7)) (drwI a1 (s.2 6 2) x10) → maxI 0 (fun k => tl (nx (s.2 6) (s.2 7)) (drwI a1 (s.2 6 2) k)) (x10 + 1).toNat = maxI 0 (fun k => tl (nx (s.2 6) (s.2 7)) (drwI a1 (s.2 6 2) k)) x10.toNat := max_not (by omega))
  (try have hb := many_b (fun k => hm (nx (s.2 6) (s.2 7)) (drwI a1 (s.2 6 2) k) = hm (nx (s.2 6) (s.2 7)) (drwI a1 (s.2 6 2) 0)) x10.toNat)
  (try have hS1 : hm (nx (s.2 6) (s.2 7)) (drwI a1 (s.2 6 2) x10) = hm (nx (s.2 6) (s.2 7)) (drwI a1 (s.2 6 2) 0) → many (fun k => hm (nx (s.2 6) (s.2 7)) (drwI a1 (s.2 6 2) k) = hm (nx (s.2 6) (s.2 7)) (drwI a1 (s.2 6 2) 0)) (x10 + 1).toNat = many (fun k => hm (nx (s.2 6) (s.2 7)) (drwI a1 (s.2 6 2) k) = hm (nx (s.2 6) (s.2 7)) (drwI a1 (s.2 6 2) 0)) x10.toNat + 1 := fun h => many_t (by omega) h)
  (try have hS2 : ¬ hm (nx (s.2 6) (s.2 7)) (drwI a1 (s.2 6 2) x10) = hm (nx (s.2 6) (s.2 7)) (drwI a1 (s.2 6 2) 0) → many (fun k => hm (nx (s.2 6) (s.2 7)) (drwI a1 (s.2 6 2) k) = hm (nx (s.2 6) (s.2 7)) (drwI a1 (s.2 6 2) 0)) (x10 + 1).toNat = many (fun k => hm (nx (s.2 6) (s.2 7)) (drwI a1 (s.2 6 2) k) = hm (nx (s.2 6) (s.2 7)) (drwI a1 (s.2 6 2) 0)) x10.toNat := fun h => many_f (by omega) h)
  (try have hz : x10 = 0 → hm (nx (s.2 6) (s.2 7)) (drwI a1 (s.2 6 2) x10) = hm (nx (s.2 6) (s.2 7)) (drwI a1 (s.2 6 2) 0) := fun h => by rw [h])
  (try have h00 := (hm_b hg (drwI_b (sd := a1) (k := 0) hN2).1 (drwI_b (sd := a1) (k := 0) hN2).2).1)
  (try have hzz := hI.2.2.2.2.2.2.2.2.1)
  (try unfold lex3)
  (try simp only [bI_0, bI_n, Classical.not_not] at *)
  (try simp (disch := omega) only [i32_id] at *)
  first | done | omega | ((repeat' (with_reducible apply And.intro)) <;> first | assumption | rfl | omega | (exact hI.1) | (exact hI.2.1) | (exact hq) | (unfold rEvening; rw [if_neg (by omega)]) | (exact hI.2.2.1.1) | (exact MT_0 (fun z a b => hI.2.2.2.2 z a (by omega))) | (exact Or.inl ⟨rfl, rfl⟩) | (intro z h0 h1; omega) | (exact upto_s (p := fun z v => v = 0) hI.2.2.2.2 rfl) | (exact MT_s hI.2.2.2.2.2.1 (by omega)) | (unfold rEvening; rw [if_pos (by omega), if_pos (by omega), hI.2.2.2.2.2.2.1, show x10 = a2 by omega]) | (unfold rEvening; rw [if_pos (by omega), if_neg (by omega), if_pos (by omega), hI.2.2.2.2.2.2.2.1, show x10 = a2 by omega]) | (unfold rEvening; rw [if_pos (by omega), if_neg (by omega), if_neg (by omega), hI.2.2.2.2.2.2.2.2.2, show x10 = a2 by omega]) | grind [upI])
theorem vX3_evening_17 (s : MS) (a1 : Int) (a2 : Int) (a3 : Int) (hp : tOK (s.2 6) ∧ aOK (s.2 6) (s.2 7) ∧ lOK ((s.2 5) 0) (s.2 6)) (x2 : Int) (x3 : Int) (x4 : Int) (x6 : Int) (x7 : Int) (x8 : Int) (x9 : Int) (x10 : Int) (f11 : Int → Int) (f12 : Int → Int) (f13 : Int → Int) (f14 : Int → Int) (f15 : Int → Int) (f16 : Int → Int) (f17 : Int → Int) (f18 : Int → Int) (f19 : Int → Int) (k0 : Int) (k25 : Int) (k33 : Int) (k34 : Int) (hI : k0 = 0 ∧ GO (s.2 6) (s.2 7) f13 f14 f15 f16 ∧ (x2 = a2 ∧ x3 = a3 ∧ 0 < s.2 5 0 ∧ 0 ≤ a1 ∧ a1 ≤ 2000000000 ∧ 1 ≤ a2 ∧ a2 ≤ 100 ∧ 0 ≤ a3 ∧ a3 ≤ 2) ∧ (0 ≤ x10 ∧ x10 ≤ a2) ∧ x4 = drw a1 x10.toNat ∧ MT (fun k => hm (nx (s.2 6) (s.2 7)) (drwI a1 (s.2 6 2) k)) f17 (s.2 6 2) x10 ∧ x6 = sumI (newK (fun k => hm (nx (s.2 6) (s.2 7)) (drwI a1 (s.2 6 2) k))) x10.toNat ∧ x7 = maxI 0 (fun k => tl (nx (s.2 6) (s.2 7)) (drwI a1 (s.2 6 2) k)) x10.toNat ∧ ((x10 = 0 ∧ x8 = -1) ∨ (0 < x10 ∧ x8 = hm (nx (s.2 6) (s.2 7)) (drwI a1 (s.2 6 2) 0))) ∧ x9 = many (fun k => hm (nx (s.2 6) (s.2 7)) (drwI a1 (s.2 6 2) k) = hm (nx (s.2 6) (s.2 7)) (drwI a1 (s.2 6 2) 0)) x10.toNat) (c_1 : ¬ x2 ≤ x10) (o_4 : (s.2 6 2) ≠ 0) (c_5 : ¬ x8 = (-1)) (o_6 : (0 ≤ (i32 (i64 (Int.tmod (i64 (Int.tdiv (i64 (Int.tmod (i64 ((i64 (1103515245 * x4)) + 12345)) 2147483648)) 65536)) (s.2 6 2)))) ∧ (i32 (i64 (Int.tmod (i64 (Int.tdiv (i64 (Int.tmod (i64 ((i64 (1103515245 * x4)) + 12345)) 2147483648)) 65536)) (s.2 6 2)))) < 10000)) (o_7 : (0 ≤ (f15 (i32 (i64 (Int.tmod (i64 (Int.tdiv (i64 (Int.tmod (i64 ((i64 (1103515245 * x4)) + 12345)) 2147483648)) 65536)) (s.2 6 2))))) ∧ (f15 (i32 (i64 (Int.tmod (i64 (Int.tdiv (i64 (Int.tmod (i64 ((i64 (1103515245 * x4)) + 12345)) 2147483648)) 65536)) (s.2 6 2))))) < 10000)) (c_8 : ¬ (f17 (f15 (i32 (i64 (Int.tmod (i64 (Int.tdiv (i64 (Int.tmod (i64 ((i64 (1103515245 * x4)) + 12345)) 2147483648)) 65536)) (s.2 6 2)))))) = 0) (c_9 : (f14 (i32 (i64 (Int.tmod (i64 (Int.tdiv (i64 (Int.tmod (i64 ((i64 (1103515245 * x4)) + 12345)) 2147483648)) 65536)) (s.2 6 2))))) ≤ x7) (c_10 : (f15 (i32 (i64 (Int.tmod (i64 (Int.tdiv (i64 (Int.tmod (i64 ((i64 (1103515245 * x4)) + 12345)) 2147483648)) 65536)) (s.2 6 2))))) = x8) : k0 = 0 ∧ GO (s.2 6) (s.2 7) f13 f14 f15 f16 ∧ (x2 = a2 ∧ x3 = a3 ∧ 0 < s.2 5 0 ∧ 0 ≤ a1 ∧ a1 ≤ 2000000000 ∧ 1 ≤ a2 ∧ a2 ≤ 100 ∧ 0 ≤ a3 ∧ a3 ≤ 2) ∧ (0 ≤ (i32 (x10 + 1)) ∧ (i32 (x10 + 1)) ≤ a2) ∧ (i64 (Int.tmod (i64 ((i64 (1103515245 * x4)) + 12345)) 2147483648)) = drw a1 (i32 (x10 + 1)).toNat ∧ MT (fun k => hm (nx (s.2 6) (s.2 7)) (drwI a1 (s.2 6 2) k)) (upI f17 (f15 (i32 (i64 (Int.tmod (i64 (Int.tdiv (i64 (Int.tmod (i64 ((i64 (1103515245 * x4)) + 12345)) 2147483648)) 65536)) (s.2 6 2))))) 1) (s.2 6 2) (i32 (x10 + 1)) ∧ (i32 (x6 + 0)) = sumI (newK (fun k => hm (nx (s.2 6) (s.2 7)) (drwI a1 (s.2 6 2) k))) (i32 (x10 + 1)).toNat ∧ x7 = maxI 0 (fun k => tl (nx (s.2 6) (s.2 7)) (drwI a1 (s.2 6 2) k)) (i32 (x10 + 1)).toNat ∧ (((i32 (x10 + 1)) = 0 ∧ x8 = -1) ∨ (0 < (i32 (x10 + 1)) ∧ x8 = hm (nx (s.2 6) (s.2 7)) (drwI a1 (s.2 6 2) 0))) ∧ (i32 (x9 + 1)) = many (fun k => hm (nx (s.2 6) (s.2 7)) (drwI a1 (s.2 6 2) k) = hm (nx (s.2 6) (s.2 7)) (drwI a1 (s.2 6 2) 0)) (i32 (x10 + 1)).toNat := by
  obtain ⟨ht, ha, hl⟩ := hp
  have hN := tOK_N ht
  have hg := nx_rng (s.2 6) (s.2 7)
  (try simp only [bI_0, bI_n, Classical.not_not] at *)
  (try have hq := ‹GO (s.2 6) (s.2 7) _ _ _ _›)
  (try have hq := hI.2.1)
  (try have hx := GO_at hq (x := a1) (by omega) (by omega))
  (try have hN2 : 0 < s.2 6 2 := lOK_N ht hl (by omega))
  (try have hdb := drwI_b (sd := a1) (k := x10) hN2)
  (try have hd1 := drw_s (sd := a1) (by omega) (by omega) (by omega) hI.2.2.2.2.1)
  (try have hdi := drw_i (sd := a1) (N := s.2 6 2) (k := x10) (by omega) (by omega) hN2 (by omega) rfl)
  (try simp only [hd1, hdi] at *)
  (try have hy := GO_at hq hdb.1 hdb.2)
  (try (have y1 := hy.2.1.1; have y2 := hy.1.2.1; have y3 := hy.2.1.2; have y4 := hy.1.2.2))
  (try (clear hy; simp only [y1, y2] at *))
  (try have hs := sumI_s (newK (fun k => hm (nx (s.2 6) (s.2 7)) (drwI a1 (s.2 6 2) k))) (k := x10) (by omega))
  (try have hsb := sumI_b (f := newK (fun k => hm (nx (s.2 6) (s.2 7)) (drwI a1 (s.2 6 2) k))) x10.toNat (fun i _ _ => newK_01 _ _))
  (try have hn : (f17 (hm (nx (s.2 6) (s.2 7)) (drwI a1 (s.2 6 2) x10)) = 0 → newK (fun k => hm (nx (s.2 6) (s.2 7)) (drwI a1 (s.2 6 2) k)) x10 = 1) ∧ (¬ f17 (hm (nx (s.2 6) (s.2 7)) (drwI a1 (s.2 6 2) x10)) = 0 → newK (fun k => hm (nx (s.2 6) (s.2 7)) (drwI a1 (s.2 6 2) k)) x10 = 0) := MT_new hI.2.2.2.2.2.1 y3)
  (try have hm1 : maxI 0 (fun k => tl (nx (s.2 6) (s.2 7)) (drwI a1 (s.2 6 2) k)) x10.toNat < tl (nx (s.2 6) (s.2 7)) (drwI a1 (s.2 6 2) x10) → maxI 0 (fun k => tl (nx (s.2 6) (s.2 7)) (drwI a1 (s.2 6 2) k)) (x10 + 1).toNat = tl (nx (s.2 6) (s.2 7)) (drwI a1 (s.2 6 2) x10) := max_hit (by omega))
  (try have hm2 : ¬ maxI 0 (fun k => tl (nx (s.2 6) (s.2 7)) (drwI a1 (s.2 6 2) k)) x10.toNat < tl (nx (s.2 6) (s.2 7)) (drwI a1 (s.2 6 2) x10) → maxI 0 (fun k => tl (nx (s.2 6) (s.2 7)) (drwI a1 (s.2 6 2) k)) (x10 + 1).toNat = maxI 0 (fun k => tl (nx (s.2 6) (s.2 7)) (drwI a1 (s.2 6 2) k)) x10.toNat := max_not (by omega))
  (try have hb := many_b (fun k => hm (nx (s.2 6) (s.2 7)) (drwI a1 (s.2 6 2) k) = hm (nx (s.2 6) (s.2 7)) (drwI a1 (s.2 6 2) 0)) x10.toNat)
  (try have hS1 : hm (nx (s.2 6) (s.2 7)) (drwI a1 (s.2 6 2) x10) = hm (nx (s.2 6) (s.2 7)) (drwI a1 (s.2 6 2) 0) → many (fun k => hm (nx (s.2 6) (s.2 7)) (drwI a1 (s.2 6 2) k) = hm (nx (s.2 6) (s.2 7)) (drwI a1 (s.2 6 2) 0)) (x10 + 1).toNat = many (fun k => hm (nx (s.2 6) (s.2 7)) (drwI a1 (s.2 6 2) k) = hm (nx (s.2 6) (s.2 7)) (drwI a1 (s.2 6 2) 0)) x10.toNat + 1 := fun h => many_t (by omega) h)
  (try have hS2 : ¬ hm (nx (s.2 6) (s.2 7)) (drwI a1 (s.2 6 2) x10) = hm (nx (s.2 6) (s.2 7)) (drwI a1 (s.2 6 2) 0) → many (fun k => hm (nx (s.2 6) (s.2 7)) (drwI a1 (s.2 6 2) k) = hm (nx (s.2 6) (s.2 7)) (drwI a1 (s.2 6 2) 0)) (x10 + 1).toNat = many (fun k => hm (nx (s.2 6) (s.2 7)) (drwI a1 (s.2 6 2) k) = hm (nx (s.2 6) (s.2 7)) (drwI a1 (s.2 6 2) 0)) x10.toNat := fun h => many_f (by omega) h)
  (try have hz : x10 = 0 → hm (nx (s.2 6) (s.2 7)) (drwI a1 (s.2 6 2) x10) = hm (nx (s.2 6) (s.2 7)) (drwI a1 (s.2 6 2) 0) := fun h => by rw [h])
  (try have h00 := (hm_b hg (drwI_b (sd := a1) (k := 0) hN2).1 (drwI_b (sd := a1) (k := 0) hN2).2).1)
  (try have hzz := hI.2.2.2.2.2.2.2.2.1)
  (try unfold lex3)
  (try simp only [bI_0, bI_n, Classical.not_not] at *)
  (try simp (disch := omega) only [i32_id] at *)
  first | done | omega | ((repeat' (with_reducible apply And.intro)) <;> first | assumption | rfl | omega | (exact hI.1) | (exact hI.2.1) | (exact hq) | (unfold rEvening; rw [if_neg (by omega)]) | (exact hI.2.2.1.1) | (exact MT_0 (fun z a b => hI.2.2.2.2 z a (by omega))) | (exact Or.inl ⟨rfl, rfl⟩) | (intro z h0 h1; omega) | (exact upto_s (p := fun z v => v = 0) hI.2.2.2.2 rfl) | (exact MT_s hI.2.2.2.2.2.1 (by omega)) | (unfold rEvening; rw [if_pos (by omega), if_pos (by omega), hI.2.2.2.2.2.2.1, show x10 = a2 by omega]) | (unfold rEvening; rw [if_pos (by omega), if_neg (by omega), if_pos (by omega), hI.2.2.2.2.2.2.2.1, show x10 = a2 by omega]) | (unfold rEvening; rw [if_pos (by omega), if_neg (by omega), if_neg (by omega), hI.2.2.2.2.2.2.2.2.2, show x10 = a2 by omega]) | grind [upI])
theorem vX3_evening_18 (s : MS) (a1 : Int) (a2 : Int) (a3 : Int) (hp : tOK (s.2 6) ∧ aOK (s.2 6) (s.2 7) ∧ lOK ((s.2 5) 0) (s.2 6)) (x2 : Int) (x3 : Int) (x4 : Int) (x6 : Int) (x7 : Int) (x8 : Int) (x9 : Int) (x10 : Int) (f11 : Int → Int) (f12 : Int → Int) (f13 : Int → Int) (f14 : Int → Int) (f15 : Int → Int) (f16 : Int → Int) (f17 : Int → Int) (f18 : Int → Int) (f19 : Int → Int) (k0 : Int) (k25 : Int) (k33 : Int) (k34 : Int) (hI : k0 = 0 ∧ GO (s.2 6) (s.2 7) f13 f14 f15 f16 ∧ (x2 = a2 ∧ x3 = a3 ∧ 0 < s.2 5 0 ∧ 0 ≤ a1 ∧ a1 ≤ 2000000000 ∧ 1 ≤ a2 ∧ a2 ≤ 100 ∧ 0 ≤ a3 ∧ a3 ≤ 2) ∧ (0 ≤ x10 ∧ x10 ≤ a2) ∧ x4 = drw a1 x10.toNat ∧ MT (fun k => hm (nx (s.2 6) (s.2 7)) (drwI a1 (s.2 6 2) k)) f17 (s.2 6 2) x10 ∧ x6 = sumI (newK (fun k => hm (nx (s.2 6) (s.2 7)) (drwI a1 (s.2 6 2) k))) x10.toNat ∧ x7 = maxI 0 (fun k => tl (nx (s.2 6) (s.2 7)) (drwI a1 (s.2 6 2) k)) x10.toNat ∧ ((x10 = 0 ∧ x8 = -1) ∨ (0 < x10 ∧ x8 = hm (nx (s.2 6) (s.2 7)) (drwI a1 (s.2 6 2) 0))) ∧ x9 = many (fun k => hm (nx (s.2 6) (s.2 7)) (drwI a1 (s.2 6 2) k) = hm (nx (s.2 6) (s.2 7)) (drwI a1 (s.2 6 2) 0)) x10.toNat) (c_1 : ¬ x2 ≤ x10) (o_4 : (s.2 6 2) ≠ 0) (c_5 : ¬ x8 = (-1)) (o_6 : (0 ≤ (i32 (i64 (Int.tmod (i64 (Int.tdiv (i64 (Int.tmod (i64 ((i64 (1103515245 * x4)) + 12345)) 2147483648)) 65536)) (s.2 6 2)))) ∧ (i32 (i64 (Int.tmod (i64 (Int.tdiv (i64 (Int.tmod (i64 ((i64 (1103515245 * x4)) + 12345)) 2147483648)) 65536)) (s.2 6 2)))) < 10000)) (o_7 : (0 ≤ (f15 (i32 (i64 (Int.tmod (i64 (Int.tdiv (i64 (Int.tmod (i64 ((i64 (1103515245 * x4)) + 12345)) 2147483648)) 65536)) (s.2 6 2))))) ∧ (f15 (i32 (i64 (Int.tmod (i64 (Int.tdiv (i64 (Int.tmod (i64 ((i64 (1103515245 * x4)) + 12345)) 2147483648)) 65536)) (s.2 6 2))))) < 10000)) (c_8 : ¬ (f17 (f15 (i32 (i64 (Int.tmod (i64 (Int.tdiv (i64 (Int.tmod (i64 ((i64 (1103515245 * x4)) + 12345)) 2147483648)) 65536)) (s.2 6 2)))))) = 0) (c_9 : (f14 (i32 (i64 (Int.tmod (i64 (Int.tdiv (i64 (Int.tmod (i64 ((i64 (1103515245 * x4)) + 12345)) 2147483648)) 65536)) (s.2 6 2))))) ≤ x7) (c_10 : (f15 (i32 (i64 (Int.tmod (i64 (Int.tdiv (i64 (Int.tmod (i64 ((i64 (1103515245 * x4)) + 12345)) 2147483648)) 65536)) (s.2 6 2))))) = x8) : lex3 0 0 ((a2 - (i32 (x10 + 1))).toNat) 0 0 ((a2 - x10).toNat) := by
  obtain ⟨ht, ha, hl⟩ := hp
  have hN := tOK_N ht
  have hg := nx_rng (s.2 6) (s.2 7)
  (try simp only [bI_0, bI_n, Classical.not_not] at *)
  (try have hq := ‹GO (s.2 6) (s.2 7) _ _ _ _›)
  (try have hq := hI.2.1)
  (try have hx := GO_at hq (x := a1) (by omega) (by omega))
  (try have hN2 : 0 < s.2 6 2 := lOK_N ht hl (by omega))
  (try have hdb := drwI_b (sd := a1) (k := x10) hN2)
  (try have hd1 := drw_s (sd := a1) (by omega) (by omega) (by omega) hI.2.2.2.2.1)
  (try have hdi := drw_i (sd := a1) (N := s.2 6 2) (k := x10) (by omega) (by omega) hN2 (by omega) rfl)
  (try simp only [hd1, hdi] at *)
  (try have hy := GO_at hq hdb.1 hdb.2)
  (try (have y1 := hy.2.1.1; have y2 := hy.1.2.1; have y3 := hy.2.1.2; have y4 := hy.1.2.2))
  (try (clear hy; simp only [y1, y2] at *))
  (try have hs := sumI_s (newK (fun k => hm (nx (s.2 6) (s.2 7)) (drwI a1 (s.2 6 2) k))) (k := x10) (by omega))
  (try have hsb := sumI_b (f := newK (fun k => hm (nx (s.2 6) (s.2 7)) (drwI a1 (s.2 6 2) k))) x10.toNat (fun i _ _ => newK_01 _ _))
  (try have hn : (f17 (hm (nx (s.2 6) (s.2 7)) (drwI a1 (s.2 6 2) x10)) = 0 → newK (fun k => hm (nx (s.2 6) (s.2 7)) (drwI a1 (s.2 6 2) k)) x10 = 1) ∧ (¬ f17 (hm (nx (s.2 6) (s.2 7)) (drwI a1 (s.2 6 2) x10)) = 0 → newK (fun k => hm (nx (s.2 6) (s.2 7)) (drwI a1 (s.2 6 2) k)) x10 = 0) := MT_new hI.2.2.2.2.2.1 y3)
  (try have hm1 : maxI 0 (fun k => tl (nx (s.2 6) (s.2 7)) (drwI a1 (s.2 6 2) k)) x10.toNat < tl (nx (s.2 6) (s.2 7)) (drwI a1 (s.2 6 2) x10) → maxI 0 (fun k => tl (nx (s.2 6) (s.2 7)) (drwI a1 (s.2 6 2) k)) (x10 + 1).toNat = tl (nx (s.2 6) (s.2 7)) (drwI a1 (s.2 6 2) x10) := max_hit (by omega))
  (try have hm2 : ¬ maxI 0 (fun k => tl (nx (s.2 6) (s.2 7)) (drwI a1 (s.2 6 2) k)) x10.toNat < tl (nx (s.2 6) (s.2 7)) (drwI a1 (s.2 6 2) x10) → maxI 0 (fun k => tl (nx (s.2 6) (s.2 7)) (drwI a1 (s.2 6 2) k)) (x10 + 1).toNat = maxI 0 (fun k => tl (nx (s.2 6) (s.2 7)) (drwI a1 (s.2 6 2) k)) x10.toNat := max_not (by omega))
  (try have hb := many_b (fun k => hm (nx (s.2 6) (s.2 7)) (drwI a1 (s.2 6 2) k) = hm (nx (s.2 6) (s.2 7)) (drwI a1 (s.2 6 2) 0)) x10.toNat)
  (try have hS1 : hm (nx (s.2 6) (s.2 7)) (drwI a1 (s.2 6 2) x10) = hm (nx (s.2 6) (s.2 7)) (drwI a1 (s.2 6 2) 0) → many (fun k => hm (nx (s.2 6) (s.2 7)) (drwI a1 (s.2 6 2) k) = hm (nx (s.2 6) (s.2 7)) (drwI a1 (s.2 6 2) 0)) (x10 + 1).toNat = many (fun k => hm (nx (s.2 6) (s.2 7)) (drwI a1 (s.2 6 2) k) = hm (nx (s.2 6) (s.2 7)) (drwI a1 (s.2 6 2) 0)) x10.toNat + 1 := fun h => many_t (by omega) h)
  (try have hS2 : ¬ hm (nx (s.2 6) (s.2 7)) (drwI a1 (s.2 6 2) x10) = hm (nx (s.2 6) (s.2 7)) (drwI a1 (s.2 6 2) 0) → many (fun k => hm (nx (s.2 6) (s.2 7)) (drwI a1 (s.2 6 2) k) = hm (nx (s.2 6) (s.2 7)) (drwI a1 (s.2 6 2) 0)) (x10 + 1).toNat = many (fun k => hm (nx (s.2 6) (s.2 7)) (drwI a1 (s.2 6 2) k) = hm (nx (s.2 6) (s.2 7)) (drwI a1 (s.2 6 2) 0)) x10.toNat := fun h => many_f (by omega) h)
  (try have hz : x10 = 0 → hm (nx (s.2 6) (s.2 7)) (drwI a1 (s.2 6 2) x10) = hm (nx (s.2 6) (s.2 7)) (drwI a1 (s.2 6 2) 0) := fun h => by rw [h])
  (try have h00 := (hm_b hg (drwI_b (sd := a1) (k := 0) hN2).1 (drwI_b (sd := a1) (k := 0) hN2).2).1)
  (try have hzz := hI.2.2.2.2.2.2.2.2.1)
  (try unfold lex3)
  (try simp only [bI_0, bI_n, Classical.not_not] at *)
  (try simp (disch := omega) only [i32_id] at *)
  first | done | omega | ((repeat' (with_reducible apply And.intro)) <;> first | assumption | rfl | omega | (exact hI.1) | (exact hI.2.1) | (exact hq) | (unfold rEvening; rw [if_neg (by omega)]) | (exact hI.2.2.1.1) | (exact MT_0 (fun z a b => hI.2.2.2.2 z a (by omega))) | (exact Or.inl ⟨rfl, rfl⟩) | (intro z h0 h1; omega) | (exact upto_s (p := fun z v => v = 0) hI.2.2.2.2 rfl) | (exact MT_s hI.2.2.2.2.2.1 (by omega)) | (unfold rEvening; rw [if_pos (by omega), if_pos (by omega), hI.2.2.2.2.2.2.1, show x10 = a2 by omega]) | (unfold rEvening; rw [if_pos (by omega), if_neg (by omega), if_pos (by omega), hI.2.2.2.2.2.2.2.1, show x10 = a2 by omega]) | (unfold rEvening; rw [if_pos (by omega), if_neg (by omega), if_neg (by omega), hI.2.2.2.2.2.2.2.2.2, show x10 = a2 by omega]) | grind [upI])
theorem vX3_evening_19 (s : MS) (a1 : Int) (a2 : Int) (a3 : Int) (hp : tOK (s.2 6) ∧ aOK (s.2 6) (s.2 7) ∧ lOK ((s.2 5) 0) (s.2 6)) (x2 : Int) (x3 : Int) (x4 : Int) (x6 : Int) (x7 : Int) (x8 : Int) (x9 : Int) (x10 : Int) (f11 : Int → Int) (f12 : Int → Int) (f13 : Int → Int) (f14 : Int → Int) (f15 : Int → Int) (f16 : Int → Int) (f17 : Int → Int) (f18 : Int → Int) (f19 : Int → Int) (k0 : Int) (k25 : Int) (k33 : Int) (k34 : Int) (hI : k0 = 0 ∧ GO (s.2 6) (s.2 7) f13 f14 f15 f16 ∧ (x2 = a2 ∧ x3 = a3 ∧ 0 < s.2 5 0 ∧ 0 ≤ a1 ∧ a1 ≤ 2000000000 ∧ 1 ≤ a2 ∧ a2 ≤ 100 ∧ 0 ≤ a3 ∧ a3 ≤ 2) ∧ (0 ≤ x10 ∧ x10 ≤ a2) ∧ x4 = drw a1 x10.toNat ∧ MT (fun k => hm (nx (s.2 6) (s.2 7)) (drwI a1 (s.2 6 2) k)) f17 (s.2 6 2) x10 ∧ x6 = sumI (newK (fun k => hm (nx (s.2 6) (s.2 7)) (drwI a1 (s.2 6 2) k))) x10.toNat ∧ x7 = maxI 0 (fun k => tl (nx (s.2 6) (s.2 7)) (drwI a1 (s.2 6 2) k)) x10.toNat ∧ ((x10 = 0 ∧ x8 = -1) ∨ (0 < x10 ∧ x8 = hm (nx (s.2 6) (s.2 7)) (drwI a1 (s.2 6 2) 0))) ∧ x9 = many (fun k => hm (nx (s.2 6) (s.2 7)) (drwI a1 (s.2 6 2) k) = hm (nx (s.2 6) (s.2 7)) (drwI a1 (s.2 6 2) 0)) x10.toNat) (c_1 : ¬ x2 ≤ x10) (o_4 : (s.2 6 2) ≠ 0) (c_5 : ¬ x8 = (-1)) (o_6 : (0 ≤ (i32 (i64 (Int.tmod (i64 (Int.tdiv (i64 (Int.tmod (i64 ((i64 (1103515245 * x4)) + 12345)) 2147483648)) 65536)) (s.2 6 2)))) ∧ (i32 (i64 (Int.tmod (i64 (Int.tdiv (i64 (Int.tmod (i64 ((i64 (1103515245 * x4)) + 12345)) 2147483648)) 65536)) (s.2 6 2)))) < 10000)) (o_7 : (0 ≤ (f15 (i32 (i64 (Int.tmod (i64 (Int.tdiv (i64 (Int.tmod (i64 ((i64 (1103515245 * x4)) + 12345)) 2147483648)) 65536)) (s.2 6 2))))) ∧ (f15 (i32 (i64 (Int.tmod (i64 (Int.tdiv (i64 (Int.tmod (i64 ((i64 (1103515245 * x4)) + 12345)) 2147483648)) 65536)) (s.2 6 2))))) < 10000)) (c_8 : ¬ (f17 (f15 (i32 (i64 (Int.tmod (i64 (Int.tdiv (i64 (Int.tmod (i64 ((i64 (1103515245 * x4)) + 12345)) 2147483648)) 65536)) (s.2 6 2)))))) = 0) (c_9 : ¬ (f14 (i32 (i64 (Int.tmod (i64 (Int.tdiv (i64 (Int.tmod (i64 ((i64 (1103515245 * x4)) + 12345)) 2147483648)) 65536)) (s.2 6 2))))) ≤ x7) (c_11 : ¬ (f15 (i32 (i64 (Int.tmod (i64 (Int.tdiv (i64 (Int.tmod (i64 ((i64 (1103515245 * x4)) + 12345)) 2147483648)) 65536)) (s.2 6 2))))) = x8) : k0 = 0 ∧ GO (s.2 6) (s.2 7) f13 f14 f15 f16 ∧ (x2 = a2 ∧ x3 = a3 ∧ 0 < s.2 5 0 ∧ 0 ≤ a1 ∧ a1 ≤ 2000000000 ∧ 1 ≤ a2 ∧ a2 ≤ 100 ∧ 0 ≤ a3 ∧ a3 ≤ 2) ∧ (0 ≤ (i32 (x10 + 1)) ∧ (i32 (x10 + 1)) ≤ a2) ∧ (i64 (Int.tmod (i64 ((i64 (1103515245 * x4)) + 12345)) 2147483648)) = drw a1 (i32 (x10 + 1)).toNat ∧ MT (fun k => hm (nx (s.2 6) (s.2 7)) (drwI a1 (s.2 6 2) k)) (upI f17 (f15 (i32 (i64 (Int.tmod (i64 (Int.tdiv (i64 (Int.tmod (i64 ((i64 (1103515245 * x4)) + 12345)) 2147483648)) 65536)) (s.2 6 2))))) 1) (s.2 6 2) (i32 (x10 + 1)) ∧ (i32 (x6 + 0)) = sumI (newK (fun k => hm (nx (s.2 6) (s.2 7)) (drwI a1 (s.2 6 2) k))) (i32 (x10 + 1)).toNat ∧ (f14 (i32 (i64 (Int.tmod (i64 (Int.tdiv (i64 (Int.tmod (i64 ((i64 (1103515245 * x4)) + 12345)) 2147483648)) 65536)) (s.2 6 2))))) = maxI 0 (fun k => tl (nx (s.2 6) (s.2 7)) (drwI a1 (s.2 6 2) k)) (i32 (x10 + 1)).toNat ∧ (((i32 (x10 + 1)) = 0 ∧ x8 = -1) ∨ (0 < (i32 (x10 + 1)) ∧ x8 = hm (nx (s.2 6) (s.2 7)) (drwI a1 (s.2 6 2) 0))) ∧ (i32 (x9 + 0)) = many (fun k => hm (nx (s.2 6) (s.2 7)) (drwI a1 (s.2 6 2) k) = hm (nx (s.2 6) (s.2 7)) (drwI a1 (s.2 6 2) 0)) (i32 (x10 + 1)).toNat := by
  obtain ⟨ht, ha, hl⟩ := hp
  have hN := tOK_N ht
  have hg := nx_rng (s.2 6) (s.2 7)
  (try simp only [bI_0, bI_n, Classical.not_not] at *)
  (try have hq := ‹GO (s.2 6) (s.2 7) _ _ _ _›)
  (try have hq := hI.2.1)
  (try have hx := GO_at hq (x := a1) (by omega) (by omega))
  (try have hN2 : 0 < s.2 6 2 := lOK_N ht hl (by omega))
  (try have hdb := drwI_b (sd := a1) (k := x10) hN2)
  (try have hd1 := drw_s (sd := a1) (by omega) (by omega) (by omega) hI.2.2.2.2.1)
  (try have hdi := drw_i (sd := a1) (N := s.2 6 2) (k := x10) (by omega) (by omega) hN2 (by omega) rfl)
  (try simp only [hd1, hdi] at *)
  (try have hy := GO_at hq hdb.1 hdb.2)
  (try (have y1 := hy.2.1.1; have y2 := hy.1.2.1; have y3 := hy.2.1.2; have y4 := hy.1.2.2))
  (try (clear hy; simp only [y1, y2] at *))
  (try have hs := sumI_s (newK (fun k => hm (nx (s.2 6) (s.2 7)) (drwI a1 (s.2 6 2) k))) (k := x10) (by omega))
  (try have hsb := sumI_b (f := newK (fun k => hm (nx (s.2 6) (s.2 7)) (drwI a1 (s.2 6 2) k))) x10.toNat (fun i _ _ => newK_01 _ _))
  (try have hn : (f17 (hm (nx (s.2 6) (s.2 7)) (drwI a1 (s.2 6 2) x10)) = 0 → newK (fun k => hm (nx (s.2 6) (s.2 7)) (drwI a1 (s.2 6 2) k)) x10 = 1) ∧ (¬ f17 (hm (nx (s.2 6) (s.2 7)) (drwI a1 (s.2 6 2) x10)) = 0 → newK (fun k => hm (nx (s.2 6) (s.2 7)) (drwI a1 (s.2 6 2) k)) x10 = 0) := MT_new hI.2.2.2.2.2.1 y3)
  (try have hm1 : maxI 0 (fun k => tl (nx (s.2 6) (s.2 7)) (drwI a1 (s.2 6 2) k)) x10.toNat < tl (nx (s.2 6) (s.2 7)) (drwI a1 (s.2 6 2) x10) → maxI 0 (fun k => tl (nx (s.2 6) (s.2 7)) (drwI a1 (s.2 6 2) k)) (x10 + 1).toNat = tl (nx (s.2 6) (s.2 7)) (drwI a1 (s.2 6 2) x10) := max_hit (by omega))
  (try have hm2 : ¬ maxI 0 (fun k => tl (nx (s.2 6) (s.2 7)) (drwI a1 (s.2 6 2) k)) x10.toNat < tl (nx (s.2 6) (s.2 7)) (drwI a1 (s.2 6 2) x10) → maxI 0 (fun k => tl (nx (s.2 6) (s.2 7)) (drwI a1 (s.2 6 2) k)) (x10 + 1).toNat = maxI 0 (fun k => tl (nx (s.2 6) (s.2 7)) (drwI a1 (s.2 6 2) k)) x10.toNat := max_not (by omega))
  (try have hb := many_b (fun k => hm (nx (s.2 6) (s.2 7)) (drwI a1 (s.2 6 2) k) = hm (nx (s.2 6) (s.2 7)) (drwI a1 (s.2 6 2) 0)) x10.toNat)
  (try have hS1 : hm (nx (s.2 6) (s.2 7)) (drwI a1 (s.2 6 2) x10) = hm (nx (s.2 6) (s.2 7)) (drwI a1 (s.2 6 2) 0) → many (fun k => hm (nx (s.2 6) (s.2 7)) (drwI a1 (s.2 6 2) k) = hm (nx (s.2 6) (s.2 7)) (drwI a1 (s.2 6 2) 0)) (x10 + 1).toNat = many (fun k => hm (nx (s.2 6) (s.2 7)) (drwI a1 (s.2 6 2) k) = hm (nx (s.2 6) (s.2 7)) (drwI a1 (s.2 6 2) 0)) x10.toNat + 1 := fun h => many_t (by omega) h)
  (try have hS2 : ¬ hm (nx (s.2 6) (s.2 7)) (drwI a1 (s.2 6 2) x10) = hm (nx (s.2 6) (s.2 7)) (drwI a1 (s.2 6 2) 0) → many (fun k => hm (nx (s.2 6) (s.2 7)) (drwI a1 (s.2 6 2) k) = hm (nx (s.2 6) (s.2 7)) (drwI a1 (s.2 6 2) 0)) (x10 + 1).toNat = many (fun k => hm (nx (s.2 6) (s.2 7)) (drwI a1 (s.2 6 2) k) = hm (nx (s.2 6) (s.2 7)) (drwI a1 (s.2 6 2) 0)) x10.toNat := fun h => many_f (by omega) h)
  (try have hz : x10 = 0 → hm (nx (s.2 6) (s.2 7)) (drwI a1 (s.2 6 2) x10) = hm (nx (s.2 6) (s.2 7)) (drwI a1 (s.2 6 2) 0) := fun h => by rw [h])
  (try have h00 := (hm_b hg (drwI_b (sd := a1) (k := 0) hN2).1 (drwI_b (sd := a1) (k := 0) hN2).2).1)
  (try have hzz := hI.2.2.2.2.2.2.2.2.1)
  (try unfold lex3)
  (try simp only [bI_0, bI_n, Classical.not_not] at *)
  (try simp (disch := omega) only [i32_id] at *)
  first | done | omega | ((repeat' (with_reducible apply And.intro)) <;> first | assumption | rfl | omega | (exact hI.1) | (exact hI.2.1) | (exact hq) | (unfold rEvening; rw [if_neg (by omega)]) | (exact hI.2.2.1.1) | (exact MT_0 (fun z a b => hI.2.2.2.2 z a (by omega))) | (exact Or.inl ⟨rfl, rfl⟩) | (intro z h0 h1; omega) | (exact upto_s (p := fun z v => v = 0) hI.2.2.2.2 rfl) | (exact MT_s hI.2.2.2.2.2.1 (by omega)) | (unfold rEvening; rw [if_pos (by omega), if_pos (by omega), hI.2.2.2.2.2.2.1, show x10 = a2 by omega]) | (unfold rEvening; rw [if_pos (by omega), if_neg (by omega), if_pos (by omega), hI.2.2.2.2.2.2.2.1, show x10 = a2 by omega]) | (unfold rEvening; rw [if_pos (by omega), if_neg (by omega), if_neg (by omega), hI.2.2.2.2.2.2.2.2.2, show x10 = a2 by omega]) | grind [upI])
theorem vX3_evening_20 (s : MS) (a1 : Int) (a2 : Int) (a3 : Int) (hp : tOK (s.2 6) ∧ aOK (s.2 6) (s.2 7) ∧ lOK ((s.2 5) 0) (s.2 6)) (x2 : Int) (x3 : Int) (x4 : Int) (x6 : Int) (x7 : Int) (x8 : Int) (x9 : Int) (x10 : Int) (f11 : Int → Int) (f12 : Int → Int) (f13 : Int → Int) (f14 : Int → Int) (f15 : Int → Int) (f16 : Int → Int) (f17 : Int → Int) (f18 : Int → Int) (f19 : Int → Int) (k0 : Int) (k25 : Int) (k33 : Int) (k34 : Int) (hI : k0 = 0 ∧ GO (s.2 6) (s.2 7) f13 f14 f15 f16 ∧ (x2 = a2 ∧ x3 = a3 ∧ 0 < s.2 5 0 ∧ 0 ≤ a1 ∧ a1 ≤ 2000000000 ∧ 1 ≤ a2 ∧ a2 ≤ 100 ∧ 0 ≤ a3 ∧ a3 ≤ 2) ∧ (0 ≤ x10 ∧ x10 ≤ a2) ∧ x4 = drw a1 x10.toNat ∧ MT (fun k => hm (nx (s.2 6) (s.2 7)) (drwI a1 (s.2 6 2) k)) f17 (s.2 6 2) x10 ∧ x6 = sumI (newK (fun k => hm (nx (s.2 6) (s.2 7)) (drwI a1 (s.2 6 2) k))) x10.toNat ∧ x7 = maxI 0 (fun k => tl (nx (s.2 6) (s.2 7)) (drwI a1 (s.2 6 2) k)) x10.toNat ∧ ((x10 = 0 ∧ x8 = -1) ∨ (0 < x10 ∧ x8 = hm (nx (s.2 6) (s.2 7)) (drwI a1 (s.2 6 2) 0))) ∧ x9 = many (fun k => hm (nx (s.2 6) (s.2 7)) (drwI a1 (s.2 6 2) k) = hm (nx (s.2 6) (s.2 7)) (drwI a1 (s.2 6 2) 0)) x10.toNat) (c_1 : ¬ x2 ≤ x10) (o_4 : (s.2 6 2) ≠ 0) (c_5 : ¬ x8 = (-1)) (o_6 : (0 ≤ (i32 (i64 (Int.tmod (i64 (Int.tdiv (i64 (Int.tmod (i64 ((i64 (1103515245 * x4)) + 12345)) 2147483648)) 65536)) (s.2 6 2)))) ∧ (i32 (i64 (Int.tmod (i64 (Int.tdiv (i64 (Int.tmod (i64 ((i64 (1103515245 * x4)) + 12345)) 2147483648)) 65536)) (s.2 6 2)))) < 10000)) (o_7 : (0 ≤ (f15 (i32 (i64 (Int.tmod (i64 (Int.tdiv (i64 (Int.tmod (i64 ((i64 (1103515245 * x4)) + 12345)) 2147483648)) 65536)) (s.2 6 2))))) ∧ (f15 (i32 (i64 (Int.tmod (i64 (Int.tdiv (i64 (Int.tmod (i64 ((i64 (1103515245 * x4)) + 12345)) 2147483648)) 65536)) (s.2 6 2))))) < 10000)) (c_8 : ¬ (f17 (f15 (i32 (i64 (Int.tmod (i64 (Int.tdiv (i64 (Int.tmod (i64 ((i64 (1103515245 * x4)) + 12345)) 2147483648)) 65536)) (s.2 6 2)))))) = 0) (c_9 : ¬ (f14 (i32 (i64 (Int.tmod (i64 (Int.tdiv (i64 (Int.tmod (i64 ((i64 (1103515245 * x4)) + 12345)) 2147483648)) 65536)) (s.2 6 2))))) ≤ x7) (c_11 : ¬ (f15 (i32 (i64 (Int.tmod (i64 (Int.tdiv (i64 (Int.tmod (i64 ((i64 (1103515245 * x4)) + 12345)) 2147483648)) 65536)) (s.2 6 2))))) = x8) : lex3 0 0 ((a2 - (i32 (x10 + 1))).toNat) 0 0 ((a2 - x10).toNat) := by
  obtain ⟨ht, ha, hl⟩ := hp
  have hN := tOK_N ht
  have hg := nx_rng (s.2 6) (s.2 7)
  (try simp only [bI_0, bI_n, Classical.not_not] at *)
  (try have hq := ‹GO (s.2 6) (s.2 7) _ _ _ _›)
  (try have hq := hI.2.1)
  (try have hx := GO_at hq (x := a1) (by omega) (by omega))
  (try have hN2 : 0 < s.2 6 2 := lOK_N ht hl (by omega))
  (try have hdb := drwI_b (sd := a1) (k := x10) hN2)
  (try have hd1 := drw_s (sd := a1) (by omega) (by omega) (by omega) hI.2.2.2.2.1)
  (try have hdi := drw_i (sd := a1) (N := s.2 6 2) (k := x10) (by omega) (by omega) hN2 (by omega) rfl)
  (try simp only [hd1, hdi] at *)
  (try have hy := GO_at hq hdb.1 hdb.2)
  (try (have y1 := hy.2.1.1; have y2 := hy.1.2.1; have y3 := hy.2.1.2; have y4 := hy.1.2.2))
  (try (clear hy; simp only [y1, y2] at *))
  (try have hs := sumI_s (newK (fun k => hm (nx (s.2 6) (s.2 7)) (drwI a1 (s.2 6 2) k))) (k := x10) (by omega))
  (try have hsb := sumI_b (f := newK (fun k => hm (nx (s.2 6) (s.2 7)) (drwI a1 (s.2 6 2) k))) x10.toNat (fun i _ _ => newK_01 _ _))
  (try have hn : (f17 (hm (nx (s.2 6) (s.2 7)) (drwI a1 (s.2 6 2) x10)) = 0 → newK (fun k => hm (nx (s.2 6) (s.2 7)) (drwI a1 (s.2 6 2) k)) x10 = 1) ∧ (¬ f17 (hm (nx (s.2 6) (s.2 7)) (drwI a1 (s.2 6 2) x10)) = 0 → newK (fun k => hm (nx (s.2 6) (s.2 7)) (drwI a1 (s.2 6 2) k)) x10 = 0) := MT_new hI.2.2.2.2.2.1 y3)
  (try have hm1 : maxI 0 (fun k => tl (nx (s.2 6) (s.2 7)) (drwI a1 (s.2 6 2) k)) x10.toNat < tl (nx (s.2 6) (s.2 7)) (drwI a1 (s.2 6 2) x10) → maxI 0 (fun k => tl (nx (s.2 6) (s.2 7)) (drwI a1 (s.2 6 2) k)) (x10 + 1).toNat = tl (nx (s.2 6) (s.2 7)) (drwI a1 (s.2 6 2) x10) := max_hit (by omega))
  (try have hm2 : ¬ maxI 0 (fun k => tl (nx (s.2 6) (s.2 7)) (drwI a1 (s.2 6 2) k)) x10.toNat < tl (nx (s.2 6) (s.2 7)) (drwI a1 (s.2 6 2) x10) → maxI 0 (fun k => tl (nx (s.2 6) (s.2 7)) (drwI a1 (s.2 6 2) k)) (x10 + 1).toNat = maxI 0 (fun k => tl (nx (s.2 6) (s.2 7)) (drwI a1 (s.2 6 2) k)) x10.toNat := max_not (by omega))
  (try have hb := many_b (fun k => hm (nx (s.2 6) (s.2 7)) (drwI a1 (s.2 6 2) k) = hm (nx (s.2 6) (s.2 7)) (drwI a1 (s.2 6 2) 0)) x10.toNat)
  (try have hS1 : hm (nx (s.2 6) (s.2 7)) (drwI a1 (s.2 6 2) x10) = hm (nx (s.2 6) (s.2 7)) (drwI a1 (s.2 6 2) 0) → many (fun k => hm (nx (s.2 6) (s.2 7)) (drwI a1 (s.2 6 2) k) = hm (nx (s.2 6) (s.2 7)) (drwI a1 (s.2 6 2) 0)) (x10 + 1).toNat = many (fun k => hm (nx (s.2 6) (s.2 7)) (drwI a1 (s.2 6 2) k) = hm (nx (s.2 6) (s.2 7)) (drwI a1 (s.2 6 2) 0)) x10.toNat + 1 := fun h => many_t (by omega) h)
  (try have hS2 : ¬ hm (nx (s.2 6) (s.2 7)) (drwI a1 (s.2 6 2) x10) = hm (nx (s.2 6) (s.2 7)) (drwI a1 (s.2 6 2) 0) → many (fun k => hm (nx (s.2 6) (s.2 7)) (drwI a1 (s.2 6 2) k) = hm (nx (s.2 6) (s.2 7)) (drwI a1 (s.2 6 2) 0)) (x10 + 1).toNat = many (fun k => hm (nx (s.2 6) (s.2 7)) (drwI a1 (s.2 6 2) k) = hm (nx (s.2 6) (s.2 7)) (drwI a1 (s.2 6 2) 0)) x10.toNat := fun h => many_f (by omega) h)
  (try have hz : x10 = 0 → hm (nx (s.2 6) (s.2 7)) (drwI a1 (s.2 6 2) x10) = hm (nx (s.2 6) (s.2 7)) (drwI a1 (s.2 6 2) 0) := fun h => by rw [h])
  (try have h00 := (hm_b hg (drwI_b (sd := a1) (k := 0) hN2).1 (drwI_b (sd := a1) (k := 0) hN2).2).1)
  (try have hzz := hI.2.2.2.2.2.2.2.2.1)
  (try unfold lex3)
  (try simp only [bI_0, bI_n, Classical.not_not] at *)
  (try simp (disch := omega) only [i32_id] at *)
  first | done | omega | ((repeat' (with_reducible apply And.intro)) <;> first | assumption | rfl | omega | (exact hI.1) | (exact hI.2.1) | (exact hq) | (unfold rEvening; rw [if_neg (by omega)]) | (exact hI.2.2.1.1) | (exact MT_0 (fun z a b => hI.2.2.2.2 z a (by omega))) | (exact Or.inl ⟨rfl, rfl⟩) | (intro z h0 h1; omega) | (exact upto_s (p := fun z v => v = 0) hI.2.2.2.2 rfl) | (exact MT_s hI.2.2.2.2.2.1 (by omega)) | (unfold rEvening; rw [if_pos (by omega), if_pos (by omega), hI.2.2.2.2.2.2.1, show x10 = a2 by omega]) | (unfold rEvening; rw [if_pos (by omega), if_neg (by omega), if_pos (by omega), hI.2.2.2.2.2.2.2.1, show x10 = a2 by omega]) | (unfold rEvening; rw [if_pos (by omega), if_neg (by omega), if_neg (by omega), hI.2.2.2.2.2.2.2.2.2, show x10 = a2 by omega]) | grind [upI])
theorem vX3_evening_21 (s : MS) (a1 : Int) (a2 : Int) (a3 : Int) (hp : tOK (s.2 6) ∧ aOK (s.2 6) (s.2 7) ∧ lOK ((s.2 5) 0) (s.2 6)) (x2 : Int) (x3 : Int) (x4 : Int) (x6 : Int) (x7 : Int) (x8 : Int) (x9 : Int) (x10 : Int) (f11 : Int → Int) (f12 : Int → Int) (f13 : Int → Int) (f14 : Int → Int) (f15 : Int → Int) (f16 : Int → Int) (f17 : Int → Int) (f18 : Int → Int) (f19 : Int → Int) (k0 : Int) (k25 : Int) (k33 : Int) (k34 : Int) (hI : k0 = 0 ∧ GO (s.2 6) (s.2 7) f13 f14 f15 f16 ∧ (x2 = a2 ∧ x3 = a3 ∧ 0 < s.2 5 0 ∧ 0 ≤ a1 ∧ a1 ≤ 2000000000 ∧ 1 ≤ a2 ∧ a2 ≤ 100 ∧ 0 ≤ a3 ∧ a3 ≤ 2) ∧ (0 ≤ x10 ∧ x10 ≤ a2) ∧ x4 = drw a1 x10.toNat ∧ MT (fun k => hm (nx (s.2 6) (s.2 7)) (drwI a1 (s.2 6 2) k)) f17 (s.2 6 2) x10 ∧ x6 = sumI (newK (fun k => hm (nx (s.2 6) (s.2 7)) (drwI a1 (s.2 6 2) k))) x10.toNat ∧ x7 = maxI 0 (fun k => tl (nx (s.2 6) (s.2 7)) (drwI a1 (s.2 6 2) k)) x10.toNat ∧ ((x10 = 0 ∧ x8 = -1) ∨ (0 < x10 ∧ x8 = hm (nx (s.2 6) (s.2 7)) (drwI a1 (s.2 6 2) 0))) ∧ x9 = many (fun k => hm (nx (s.2 6) (s.2 7)) (drwI a1 (s.2 6 2) k) = hm (nx (s.2 6) (s.2 7)) (drwI a1 (s.2 6 2) 0)) x10.toNat) (c_1 : ¬ x2 ≤ x10) (o_4 : (s.2 6 2) ≠ 0) (c_5 : ¬ x8 = (-1)) (o_6 : (0 ≤ (i32 (i64 (Int.tmod (i64 (Int.tdiv (i64 (Int.tmod (i64 ((i64 (1103515245 * x4)) + 12345)) 2147483648)) 65536)) (s.2 6 2)))) ∧ (i32 (i64 (Int.tmod (i64 (Int.tdiv (i64 (Int.tmod (i64 ((i64 (1103515245 * x4)) + 12345)) 2147483648)) 65536)) (s.2 6 2)))) < 10000)) (o_7 : (0 ≤ (f15 (i32 (i64 (Int.tmod (i64 (Int.tdiv (i64 (Int.tmod (i64 ((i64 (1103515245 * x4)) + 12345)) 2147483648)) 65536)) (s.2 6 2))))) ∧ (f15 (i32 (i64 (Int.tmod (i64 (Int.tdiv (i64 (Int.tmod (i64 ((i64 (1103515245 * x4)) + 12345)) 2147483648)) 65536)) (s.2 6 2))))) < 10000)) (c_8 : ¬ (f17 (f15 (i32 (i64 (Int.tmod (i64 (Int.tdiv (i64 (Int.tmod (i64 ((i64 (1103515245 * x4)) + 12345)) 2147483648)) 65536)) (s.2 6 2)))))) = 0) (c_9 : ¬ (f14 (i32 (i64 (Int.tmod (i64 (Int.tdiv (i64 (Int.tmod (i64 ((i64 (1103515245 * x4)) + 12345)) 2147483648)) 65536)) (s.2 6 2))))) ≤ x7) (c_11 : (f15 (i32 (i64 (Int.tmod (i64 (Int.tdiv (i64 (Int.tmod (i64 ((i64 (1103515245 * x4)) + 12345)) 2147483648)) 65536)) (s.2 6 2))))) = x8) : k0 = 0 ∧ GO (s.2 6) (s.2 7) f13 f14 f15 f16 ∧ (x2 = a2 ∧ x3 = a3 ∧ 0 < s.2 5 0 ∧ 0 ≤ a1 ∧ a1 ≤ 2000000000 ∧ 1 ≤ a2 ∧ a2 ≤ 100 ∧ 0 ≤ a3 ∧ a3 ≤ 2) ∧ (0 ≤ (i32 (x10 + 1)) ∧ (i32 (x10 + 1)) ≤ a2) ∧ (i64 (Int.tmod (i64 ((i64 (1103515245 * x4)) + 12345)) 2147483648)) = drw a1 (i32 (x10 + 1)).toNat ∧ MT (fun k => hm (nx (s.2 6) (s.2 7)) (drwI a1 (s.2 6 2) k)) (upI f17 (f15 (i32 (i64 (Int.tmod (i64 (Int.tdiv (i64 (Int.tmod (i64 ((i64 (1103515245 * x4)) + 12345)) 2147483648)) 65536)) (s.2 6 2))))) 1) (s.2 6 2) (i32 (x10 + 1)) ∧ (i32 (x6 + 0)) = sumI (newK (fun k => hm (nx (s.2 6) (s.2 7)) (drwI a1 (s.2 6 2) k))) (i32 (x10 + 1)).toNat ∧ (f14 (i32 (i64 (Int.tmod (i64 (Int.tdiv (i64 (Int.tmod (i64 ((i64 (1103515245 * x4)) + 12345)) 2147483648)) 65536)) (s.2 6 2))))) = maxI 0 (fun k => tl (nx (s.2 6) (s.2 7)) (drwI a1 (s.2 6 2) k)) (i32 (x10 + 1)).toNat ∧ (((i32 (x10 + 1)) = 0 ∧ x8 = -1) ∨ (0 < (i32 (x10 + 1)) ∧ x8 = hm (nx (s.2 6) (s.2 7)) (drwI a1 (s.2 6 2) 0))) ∧ (i32 (x9 + 1)) = many (fun k => hm (nx (s.2 6) (s.2 7)) (drwI a1 (s.2 6 2) k) = hm (nx (s.2 6) (s.2 7)) (drwI a1 (s.2 6 2) 0)) (i32 (x10 + 1)).toNat := by
  obtain ⟨ht, ha, hl⟩ := hp
  have hN := tOK_N ht
  have hg := nx_rng (s.2 6) (s.2 7)
  (try simp only [bI_0, bI_n, Classical.not_not] at *)
  (try have hq := ‹GO (s.2 6) (s.2 7) _ _ _ _›)
  (try have hq := hI.2.1)
  (try have hx := GO_at hq (x := a1) (by omega) (by omega))
  (try have hN2 : 0 < s.2 6 2 := lOK_N ht hl (by omega))
  (try have hdb := drwI_b (sd := a1) (k := x10) hN2)
  (try have hd1 := drw_s (sd := a1) (by omega) (by omega) (by omega) hI.2.2.2.2.1)
  (try have hdi := drw_i (sd := a1) (N := s.2 6 2) (k := x10) (by omega) (by omega) hN2 (by omega) rfl)
  (try simp only [hd1, hdi] at *)
  (try have hy := GO_at hq hdb.1 hdb.2)
  (try (have y1 := hy.2.1.1; have y2 := hy.1.2.1; have y3 := hy.2.1.2; have y4 := hy.1.2.2))
  (try (clear hy; simp only [y1, y2] at *))
  (try have hs := sumI_s (newK (fun k => hm (nx (s.2 6) (s.2 7)) (drwI a1 (s.2 6 2) k))) (k := x10) (by omega))
  (try have hsb := sumI_b (f := newK (fun k => hm (nx (s.2 6) (s.2 7)) (drwI a1 (s.2 6 2) k))) x10.toNat (fun i _ _ => newK_01 _ _))
  (try have hn : (f17 (hm (nx (s.2 6) (s.2 7)) (drwI a1 (s.2 6 2) x10)) = 0 → newK (fun k => hm (nx (s.2 6) (s.2 7)) (drwI a1 (s.2 6 2) k)) x10 = 1) ∧ (¬ f17 (hm (nx (s.2 6) (s.2 7)) (drwI a1 (s.2 6 2) x10)) = 0 → newK (fun k => hm (nx (s.2 6) (s.2 7)) (drwI a1 (s.2 6 2) k)) x10 = 0) := MT_new hI.2.2.2.2.2.1 y3)
  (try have hm1 : maxI 0 (fun k => tl (nx (s.2 6) (s.2 7)) (drwI a1 (s.2 6 2) k)) x10.toNat < tl (nx (s.2 6) (s.2 7)) (drwI a1 (s.2 6 2) x10) → maxI 0 (fun k => tl (nx (s.2 6) (s.2 7)) (drwI a1 (s.2 6 2) k)) (x10 + 1).toNat = tl (nx (s.2 6) (s.2 7)) (drwI a1 (s.2 6 2) x10) := max_hit (by omega))
  (try have hm2 : ¬ maxI 0 (fun k => tl (nx (s.2 6) (s.2 7)) (drwI a1 (s.2 6 2) k)) x10.toNat < tl (nx (s.2 6) (s.2 7)) (drwI a1 (s.2 6 2) x10) → maxI 0 (fun k => tl (nx (s.2 6) (s.2 7)) (drwI a1 (s.2 6 2) k)) (x10 + 1).toNat = maxI 0 (fun k => tl (nx (s.2 6) (s.2 7)) (drwI a1 (s.2 6 2) k)) x10.toNat := max_not (by omega))
  (try have hb := many_b (fun k => hm (nx (s.2 6) (s.2 7)) (drwI a1 (s.2 6 2) k) = hm (nx (s.2 6) (s.2 7)) (drwI a1 (s.2 6 2) 0)) x10.toNat)
  (try have hS1 : hm (nx (s.2 6) (s.2 7)) (drwI a1 (s.2 6 2) x10) = hm (nx (s.2 6) (s.2 7)) (drwI a1 (s.2 6 2) 0) → many (fun k => hm (nx (s.2 6) (s.2 7)) (drwI a1 (s.2 6 2) k) = hm (nx (s.2 6) (s.2 7)) (drwI a1 (s.2 6 2) 0)) (x10 + 1).toNat = many (fun k => hm (nx (s.2 6) (s.2 7)) (drwI a1 (s.2 6 2) k) = hm (nx (s.2 6) (s.2 7)) (drwI a1 (s.2 6 2) 0)) x10.toNat + 1 := fun h => many_t (by omega) h)
  (try have hS2 : ¬ hm (nx (s.2 6) (s.2 7)) (drwI a1 (s.2 6 2) x10) = hm (nx (s.2 6) (s.2 7)) (drwI a1 (s.2 6 2) 0) → many (fun k => hm (nx (s.2 6) (s.2 7)) (drwI a1 (s.2 6 2) k) = hm (nx (s.2 6) (s.2 7)) (drwI a1 (s.2 6 2) 0)) (x10 + 1).toNat = many (fun k => hm (nx (s.2 6) (s.2 7)) (drwI a1 (s.2 6 2) k) = hm (nx (s.2 6) (s.2 7)) (drwI a1 (s.2 6 2) 0)) x10.toNat := fun h => many_f (by omega) h)
  (try have hz : x10 = 0 → hm (nx (s.2 6) (s.2 7)) (drwI a1 (s.2 6 2) x10) = hm (nx (s.2 6) (s.2 7)) (drwI a1 (s.2 6 2) 0) := fun h => by rw [h])
  (try have h00 := (hm_b hg (drwI_b (sd := a1) (k := 0) hN2).1 (drwI_b (sd := a1) (k := 0) hN2).2).1)
  (try have hzz := hI.2.2.2.2.2.2.2.2.1)
  (try unfold lex3)
  (try simp only [bI_0, bI_n, Classical.not_not] at *)
  (try simp (disch := omega) only [i32_id] at *)
  first | done | omega | ((repeat' (with_reducible apply And.intro)) <;> first | assumption | rfl | omega | (exact hI.1) | (exact hI.2.1) | (exact hq) | (unfold rEvening; rw [if_neg (by omega)]) | (exact hI.2.2.1.1) | (exact MT_0 (fun z a b => hI.2.2.2.2 z a (by omega))) | (exact Or.inl ⟨rfl, rfl⟩) | (intro z h0 h1; omega) | (exact upto_s (p := fun z v => v = 0) hI.2.2.2.2 rfl) | (exact MT_s hI.2.2.2.2.2.1 (by omega)) | (unfold rEvening; rw [if_pos (by omega), if_pos (by omega), hI.2.2.2.2.2.2.1, show x10 = a2 by omega]) | (unfold rEvening; rw [if_pos (by omega), if_neg (by omega), if_pos (by omega), hI.2.2.2.2.2.2.2.1, show x10 = a2 by omega]) | (unfold rEvening; rw [if_pos (by omega), if_neg (by omega), if_neg (by omega), hI.2.2.2.2.2.2.2.2.2, show x10 = a2 by omega]) | grind [upI])
theorem vX3_evening_22 (s : MS) (a1 : Int) (a2 : Int) (a3 : Int) (hp : tOK (s.2 6) ∧ aOK (s.2 6) (s.2 7) ∧ lOK ((s.2 5) 0) (s.2 6)) (x2 : Int) (x3 : Int) (x4 : Int) (x6 : Int) (x7 : Int) (x8 : Int) (x9 : Int) (x10 : Int) (f11 : Int → Int) (f12 : Int → Int) (f13 : Int → Int) (f14 : Int → Int) (f15 : Int → Int) (f16 : Int → Int) (f17 : Int → Int) (f18 : Int → Int) (f19 : Int → Int) (k0 : Int) (k25 : Int) (k33 : Int) (k34 : Int) (hI : k0 = 0 ∧ GO (s.2 6) (s.2 7) f13 f14 f15 f16 ∧ (x2 = a2 ∧ x3 = a3 ∧ 0 < s.2 5 0 ∧ 0 ≤ a1 ∧ a1 ≤ 2000000000 ∧ 1 ≤ a2 ∧ a2 ≤ 100 ∧ 0 ≤ a3 ∧ a3 ≤ 2) ∧ (0 ≤ x10 ∧ x10 ≤ a2) ∧ x4 = drw a1 x10.toNat ∧ MT (fun k => hm (nx (s.2 6) (s.2 7)) (drwI a1 (s.2 6 2) k)) f17 (s.2 6 2) x10 ∧ x6 = sumI (newK (fun k => hm (nx (s.2 6) (s.2 7)) (drwI a1 (s.2 6 2) k))) x10.toNat ∧ x7 = maxI 0 (fun k => tl (nx (s.2 6) (s.2 7)) (drwI a1 (s.2 6 2) k)) x10.toNat ∧ ((x10 = 0 ∧ x8 = -1) ∨ (0 < x10 ∧ x8 = hm (nx (s.2 6) (s.2 7)) (drwI a1 (s.2 6 2) 0))) ∧ x9 = many (fun k => hm (nx (s.2 6) (s.2 7)) (drwI a1 (s.2 6 2) k) = hm (nx (s.2 6) (s.2 7)) (drwI a1 (s.2 6 2) 0)) x10.toNat) (c_1 : ¬ x2 ≤ x10) (o_4 : (s.2 6 2) ≠ 0) (c_5 : ¬ x8 = (-1)) (o_6 : (0 ≤ (i32 (i64 (Int.tmod (i64 (Int.tdiv (i64 (Int.tmod (i64 ((i64 (1103515245 * x4)) + 12345)) 2147483648)) 65536)) (s.2 6 2)))) ∧ (i32 (i64 (Int.tmod (i64 (Int.tdiv (i64 (Int.tmod (i64 ((i64 (1103515245 * x4)) + 12345)) 2147483648)) 65536)) (s.2 6 2)))) < 10000)) (o_7 : (0 ≤ (f15 (i32 (i64 (Int.tmod (i64 (Int.tdiv (i64 (Int.tmod (i64 ((i64 (1103515245 * x4)) + 12345)) 2147483648)) 65536)) (s.2 6 2))))) ∧ (f15 (i32 (i64 (Int.tmod (i64 (Int.tdiv (i64 (Int.tmod (i64 ((i64 (1103515245 * x4)) + 12345)) 2147483648)) 65536)) (s.2 6 2))))) < 10000)) (c_8 : ¬ (f17 (f15 (i32 (i64 (Int.tmod (i64 (Int.tdiv (i64 (Int.tmod (i64 ((i64 (1103515245 * x4)) + 12345)) 2147483648)) 65536)) (s.2 6 2)))))) = 0) (c_9 : ¬ (f14 (i32 (i64 (Int.tmod (i64 (Int.tdiv (i64 (Int.tmod (i64 ((i64 (1103515245 * x4)) + 12345)) 2147483648)) 65536)) (s.2 6 2))))) ≤ x7) (c_11 : (f15 (i32 (i64 (Int.tmod (i64 (Int.tdiv (i64 (Int.tmod (i64 ((i64 (1103515245 * x4)) + 12345)) 2147483648)) 65536)) (s.2 6 2))))) = x8) : lex3 0 0 ((a2 - (i32 (x10 + 1))).toNat) 0 0 ((a2 - x10).toNat) := by
  obtain ⟨ht, ha, hl⟩ := hp
  have hN := tOK_N ht
  have hg := nx_rng (s.2 6) (s.2 7)
  (try simp only [bI_0, bI_n, Classical.not_not] at *)
  (try have hq := ‹GO (s.2 6) (s.2 7) _ _ _ _›)
  (try have hq := hI.2.1)
  (try have hx := GO_at hq (x := a1) (by omega) (by omega))
  (try have hN2 : 0 < s.2 6 2 := lOK_N ht hl (by omega))
  (try have hdb := drwI_b (sd := a1) (k := x10) hN2)
  (try have hd1 := drw_s (sd := a1) (by omega) (by omega) (by omega) hI.2.2.2.2.1)
  (try have hdi := drw_i (sd := a1) (N := s.2 6 2) (k := x10) (by omega) (by omega) hN2 (by omega) rfl)
  (try simp only [hd1, hdi] at *)
  (try have hy := GO_at hq hdb.1 hdb.2)
  (try (have y1 := hy.2.1.1; have y2 := hy.1.2.1; have y3 := hy.2.1.2; have y4 := hy.1.2.2))
  (try (clear hy; simp only [y1, y2] at *))
  (try have hs := sumI_s (newK (fun k => hm (nx (s.2 6) (s.2 7)) (drwI a1 (s.2 6 2) k))) (k := x10) (by omega))
  (try have hsb := sumI_b (f := newK (fun k => hm (nx (s.2 6) (s.2 7)) (drwI a1 (s.2 6 2) k))) x10.toNat (fun i _ _ => newK_01 _ _))
  (try have hn : (f17 (hm (nx (s.2 6) (s.2 7)) (drwI a1 (s.2 6 2) x10)) = 0 → newK (fun k => hm (nx (s.2 6) (s.2 7)) (drwI a1 (s.2 6 2) k)) x10 = 1) ∧ (¬ f17 (hm (nx (s.2 6) (s.2 7)) (drwI a1 (s.2 6 2) x10)) = 0 → newK (fun k => hm (nx (s.2 6) (s.2 7)) (drwI a1 (s.2 6 2) k)) x10 = 0) := MT_new hI.2.2.2.2.2.1 y3)
  (try have hm1 : maxI 0 (fun k => tl (nx (s.2 6) (s.2 7)) (drwI a1 (s.2 6 2) k)) x10.toNat < tl (nx (s.2 6) (s.2 7)) (drwI a1 (s.2 6 2) x10) → maxI 0 (fun k => tl (nx (s.2 6) (s.2 7)) (drwI a1 (s.2 6 2) k)) (x10 + 1).toNat = tl (nx (s.2 6) (s.2 7)) (drwI a1 (s.2 6 2) x10) := max_hit (by omega))
  (try have hm2 : ¬ maxI 0 (fun k => tl (nx (s.2 6) (s.2 7)) (drwI a1 (s.2 6 2) k)) x10.toNat < tl (nx (s.2 6) (s.2 7)) (drwI a1 (s.2 6 2) x10) → maxI 0 (fun k => tl (nx (s.2 6) (s.2 7)) (drwI a1 (s.2 6 2) k)) (x10 + 1).toNat = maxI 0 (fun k => tl (nx (s.2 6) (s.2 7)) (drwI a1 (s.2 6 2) k)) x10.toNat := max_not (by omega))
  (try have hb := many_b (fun k => hm (nx (s.2 6) (s.2 7)) (drwI a1 (s.2 6 2) k) = hm (nx (s.2 6) (s.2 7)) (drwI a1 (s.2 6 2) 0)) x10.toNat)
  (try have hS1 : hm (nx (s.2 6) (s.2 7)) (drwI a1 (s.2 6 2) x10) = hm (nx (s.2 6) (s.2 7)) (drwI a1 (s.2 6 2) 0) → many (fun k => hm (nx (s.2 6) (s.2 7)) (drwI a1 (s.2 6 2) k) = hm (nx (s.2 6) (s.2 7)) (drwI a1 (s.2 6 2) 0)) (x10 + 1).toNat = many (fun k => hm (nx (s.2 6) (s.2 7)) (drwI a1 (s.2 6 2) k) = hm (nx (s.2 6) (s.2 7)) (drwI a1 (s.2 6 2) 0)) x10.toNat + 1 := fun h => many_t (by omega) h)
  (try have hS2 : ¬ hm (nx (s.2 6) (s.2 7)) (drwI a1 (s.2 6 2) x10) = hm (nx (s.2 6) (s.2 7)) (drwI a1 (s.2 6 2) 0) → many (fun k => hm (nx (s.2 6) (s.2 7)) (drwI a1 (s.2 6 2) k) = hm (nx (s.2 6) (s.2 7)) (drwI a1 (s.2 6 2) 0)) (x10 + 1).toNat = many (fun k => hm (nx (s.2 6) (s.2 7)) (drwI a1 (s.2 6 2) k) = hm (nx (s.2 6) (s.2 7)) (drwI a1 (s.2 6 2) 0)) x10.toNat := fun h => many_f (by omega) h)
  (try have hz : x10 = 0 → hm (nx (s.2 6) (s.2 7)) (drwI a1 (s.2 6 2) x10) = hm (nx (s.2 6) (s.2 7)) (drwI a1 (s.2 6 2) 0) := fun h => by rw [h])
  (try have h00 := (hm_b hg (drwI_b (sd := a1) (k := 0) hN2).1 (drwI_b (sd := a1) (k := 0) hN2).2).1)
  (try have hzz := hI.2.2.2.2.2.2.2.2.1)
  (try unfold lex3)
  (try simp only [bI_0, bI_n, Classical.not_not] at *)
  (try simp (disch := omega) only [i32_id] at *)
  first | done | omega | ((repeat' (with_reducible apply And.intro)) <;> first | assumption | rfl | omega | (exact hI.1) | (exact hI.2.1) | (exact hq) | (unfold rEvening; rw [if_neg (by omega)]) | (exact hI.2.2.1.1) | (exact MT_0 (fun z a b => hI.2.2.2.2 z a (by omega))) | (exact Or.inl ⟨rfl, rfl⟩) | (intro z h0 h1; omega) | (exact upto_s (p := fun z v => v = 0) hI.2.2.2.2 rfl) | (exact MT_s hI.2.2.2.2.2.1 (by omega)) | (unfold rEvening; rw [if_pos (by omega), if_pos (by omega), hI.2.2.2.2.2.2.1, show x10 = a2 by omega]) | (unfold rEvening; rw [if_pos (by omega), if_neg (by omega), if_pos (by omega), hI.2.2.2.2.2.2.2.1, show x10 = a2 by omega]) | (unfold rEvening; rw [if_pos (by omega), if_neg (by omega), if_neg (by omega), hI.2.2.2.2.2.2.2.2.2, show x10 = a2 by omega]) | grind [upI])
theorem vX3_evening_23 (s : MS) (a1 : Int) (a2 : Int) (a3 : Int) (hp : tOK (s.2 6) ∧ aOK (s.2 6) (s.2 7) ∧ lOK ((s.2 5) 0) (s.2 6)) (x2 : Int) (x3 : Int) (x4 : Int) (x6 : Int) (x7 : Int) (x8 : Int) (x9 : Int) (x10 : Int) (f11 : Int → Int) (f12 : Int → Int) (f13 : Int → Int) (f14 : Int → Int) (f15 : Int → Int) (f16 : Int → Int) (f17 : Int → Int) (f18 : Int → Int) (f19 : Int → Int) (k0 : Int) (k25 : Int) (k33 : Int) (k34 : Int) (hI : k0 = 0 ∧ GO (s.2 6) (s.2 7) f13 f14 f15 f16 ∧ (x2 = a2 ∧ x3 = a3 ∧ 0 < s.2 5 0 ∧ 0 ≤ a1 ∧ a1 ≤ 2000000000 ∧ 1 ≤ a2 ∧ a2 ≤ 100 ∧ 0 ≤ a3 ∧ a3 ≤ 2) ∧ (0 ≤ x10 ∧ x10 ≤ a2) ∧ x4 = drw a1 x10.toNat ∧ MT (fun k => hm (nx (s.2 6) (s.2 7)) (drwI a1 (s.2 6 2) k)) f17 (s.2 6 2) x10 ∧ x6 = sumI (newK (fun k => hm (nx (s.2 6) (s.2 7)) (drwI a1 (s.2 6 2) k))) x10.toNat ∧ x7 = maxI 0 (fun k => tl (nx (s.2 6) (s.2 7)) (drwI a1 (s.2 6 2) k)) x10.toNat ∧ ((x10 = 0 ∧ x8 = -1) ∨ (0 < x10 ∧ x8 = hm (nx (s.2 6) (s.2 7)) (drwI a1 (s.2 6 2) 0))) ∧ x9 = many (fun k => hm (nx (s.2 6) (s.2 7)) (drwI a1 (s.2 6 2) k) = hm (nx (s.2 6) (s.2 7)) (drwI a1 (s.2 6 2) 0)) x10.toNat) (c_1 : ¬ x2 ≤ x10) (o_4 : (s.2 6 2) ≠ 0) (c_5 : ¬ x8 = (-1)) (o_6 : (0 ≤ (i32 (i64 (Int.tmod (i64 (Int.tdiv (i64 (Int.tmod (i64 ((i64 (1103515245 * x4)) + 12345)) 2147483648)) 65536)) (s.2 6 2)))) ∧ (i32 (i64 (Int.tmod (i64 (Int.tdiv (i64 (Int.tmod (i64 ((i64 (1103515245 * x4)) + 12345)) 2147483648)) 65536)) (s.2 6 2)))) < 10000)) (o_7 : (0 ≤ (f15 (i32 (i64 (Int.tmod (i64 (Int.tdiv (i64 (Int.tmod (i64 ((i64 (1103515245 * x4)) + 12345)) 2147483648)) 65536)) (s.2 6 2))))) ∧ (f15 (i32 (i64 (Int.tmod (i64 (Int.tdiv (i64 (Int.tmod (i64 ((i64 (1103515245 * x4)) + 12345)) 2147483648)) 65536)) (s.2 6 2))))) < 10000)) (c_8 : (f17 (f15 (i32 (i64 (Int.tmod (i64 (Int.tdiv (i64 (Int.tmod (i64 ((i64 (1103515245 * x4)) + 12345)) 2147483648)) 65536)) (s.2 6 2)))))) = 0) (c_12 : (f14 (i32 (i64 (Int.tmod (i64 (Int.tdiv (i64 (Int.tmod (i64 ((i64 (1103515245 * x4)) + 12345)) 2147483648)) 65536)) (s.2 6 2))))) ≤ x7) (c_13 : ¬ (f15 (i32 (i64 (Int.tmod (i64 (Int.tdiv (i64 (Int.tmod (i64 ((i64 (1103515245 * x4)) + 12345)) 2147483648)) 65536)) (s.2 6 2))))) = x8) : k0 = 0 ∧ GO (s.2 6) (s.2 7) f13 f14 f15 f16 ∧ (x2 = a2 ∧ x3 = a3 ∧ 0 < s.2 5 0 ∧ 0 ≤ a1 ∧ a1 ≤ 2000000000 ∧ 1 ≤ a2 ∧ a2 ≤ 100 ∧ 0 ≤ a3 ∧ a3 ≤ 2) ∧ (0 ≤ (i32 (x10 + 1)) ∧ (i32 (x10 + 1)) ≤ a2) ∧ (i64 (Int.tmod (i64 ((i64 (1103515245 * x4)) + 12345)) 2147483648)) = drw a1 (i32 (x10 + 1)).toNat ∧ MT (fun k => hm (nx (s.2 6) (s.2 7)) (drwI a1 (s.2 6 2) k)) (upI f17 (f15 (i32 (i64 (Int.tmod (i64 (Int.tdiv (i64 (Int.tmod (i64 ((i64 (1103515245 * x4)) + 12345)) 2147483648)) 65536)) (s.2 6 2))))) 1) (s.2 6 2) (i32 (x10 + 1)) ∧ (i32 (x6 + 1)) = sumI (newK (fun k => hm (nx (s.2 6) (s.2 7)) (drwI a1 (s.2 6 2) k))) (i32 (x10 + 1)).toNat ∧ x7 = maxI 0 (fun k => tl (nx (s.2 6) (s.2 7)) (drwI a1 (s.2 6 2) k)) (i32 (x10 + 1)).toNat ∧ (((i32 (x10 + 1)) = 0 ∧ x8 = -1) ∨ (0 < (i32 (x10 + 1)) ∧ x8 = hm (nx (s.2 6) (s.2 7)) (drwI a1 (s.2 6 2) 0))) ∧ (i32 (x9 + 0)) = many (fun k => hm (nx (s.2 6) (s.2 7)) (drwI a1 (s.2 6 2) k) = hm (nx (s.2 6) (s.2 7)) (drwI a1 (s.2 6 2) 0)) (i32 (x10 + 1)).toNat := by
  obtain ⟨ht, ha, hl⟩ := hp
  have hN := tOK_N ht
  have hg := nx_rng (s.2 6) (s.2 7)
  (try simp only [bI_0, bI_n, Classical.not_not] at *)
  (try have hq := ‹GO (s.2 6) (s.2 7) _ _ _ _›)
  (try have hq := hI.2.1)
  (try have hx := GO_at hq (x := a1) (by omega) (by omega))
  (try have hN2 : 0 < s.2 6 2 := lOK_N ht hl (by omega))
  (try have hdb := drwI_b (sd := a1) (k := x10) hN2)
  (try have hd1 := drw_s (sd := a1) (by omega) (by omega) (by omega) hI.2.2.2.2.1)
  (try have hdi := drw_i (sd := a1) (N := s.2 6 2) (k := x10) (by omega) (by omega) hN2 (by omega) rfl)
  (try simp only [hd1, hdi] at *)
  (try have hy := GO_at hq hdb.1 hdb.2)
  (try (have y1 := hy.2.1.1; have y2 := hy.1.2.1; have y3 := hy.2.1.2; have y4 := hy.1.2.2))
  (try (clear hy; simp only [y1, y2] at *))
  (try have hs := sumI_s (newK (fun k => hm (nx (s.2 6) (s.2 7)) (drwI a1 (s.2 6 2) k))) (k := x10) (by omega))
  (try have hsb := sumI_b (f := newK (fun k => hm (nx (s.2 6) (s.2 7)) (drwI a1 (s.2 6 2) k))) x10.toNat (fun i _ _ => newK_01 _ _))
  (try have hn : (f17 (hm (nx (s.2 6) (s.2 7)) (drwI a1 (s.2 6 2) x10)) = 0 → newK (fun k => hm (nx (s.2 6) (s.2 7)) (drwI a1 (s.2 6 2) k)) x10 = 1) ∧ (¬ f17 (hm (nx (s.2 6) (s.2 7)) (drwI a1 (s.2 6 2) x10)) = 0 → newK (fun k => hm (nx (s.2 6) (s.2 7)) (drwI a1 (s.2 6 2) k)) x10 = 0) := MT_new hI.2.2.2.2.2.1 y3)
  (try have hm1 : maxI 0 (fun k => tl (nx (s.2 6) (s.2 7)) (drwI a1 (s.2 6 2) k)) x10.toNat < tl (nx (s.2 6) (s.2 7)) (drwI a1 (s.2 6 2) x10) → maxI 0 (fun k => tl (nx (s.2 6) (s.2 7)) (drwI a1 (s.2 6 2) k)) (x10 + 1).toNat = tl (nx (s.2 6) (s.2 7)) (drwI a1 (s.2 6 2) x10) := max_hit (by omega))
  (try have hm2 : ¬ maxI 0 (fun k => tl (nx (s.2 6) (s.2 7)) (drwI a1 (s.2 6 2) k)) x10.toNat < tl (nx (s.2 6) (s.2 7)) (drwI a1 (s.2 6 2) x10) → maxI 0 (fun k => tl (nx (s.2 6) (s.2 7)) (drwI a1 (s.2 6 2) k)) (x10 + 1).toNat = maxI 0 (fun k => tl (nx (s.2 6) (s.2 7)) (drwI a1 (s.2 6 2) k)) x10.toNat := max_not (by omega))
  (try have hb := many_b (fun k => hm (nx (s.2 6) (s.2 7)) (drwI a1 (s.2 6 2) k) = hm (nx (s.2 6) (s.2 7)) (drwI a1 (s.2 6 2) 0)) x10.toNat)
  (try have hS1 : hm (nx (s.2 6) (s.2 7)) (drwI a1 (s.2 6 2) x10) = hm (nx (s.2 6) (s.2 7)) (drwI a1 (s.2 6 2) 0) → many (fun k => hm (nx (s.2 6) (s.2 7)) (drwI a1 (s.2 6 2) k) = hm (nx (s.2 6) (s.2 7)) (drwI a1 (s.2 6 2) 0)) (x10 + 1).toNat = many (fun k => hm (nx (s.2 6) (s.2 7)) (drwI a1 (s.2 6 2) k) = hm (nx (s.2 6) (s.2 7)) (drwI a1 (s.2 6 2) 0)) x10.toNat + 1 := fun h => many_t (by omega) h)
  (try have hS2 : ¬ hm (nx (s.2 6) (s.2 7)) (drwI a1 (s.2 6 2) x10) = hm (nx (s.2 6) (s.2 7)) (drwI a1 (s.2 6 2) 0) → many (fun k => hm (nx (s.2 6) (s.2 7)) (drwI a1 (s.2 6 2) k) = hm (nx (s.2 6) (s.2 7)) (drwI a1 (s.2 6 2) 0)) (x10 + 1).toNat = many (fun k => hm (nx (s.2 6) (s.2 7)) (drwI a1 (s.2 6 2) k) = hm (nx (s.2 6) (s.2 7)) (drwI a1 (s.2 6 2) 0)) x10.toNat := fun h => many_f (by omega) h)
  (try have hz : x10 = 0 → hm (nx (s.2 6) (s.2 7)) (drwI a1 (s.2 6 2) x10) = hm (nx (s.2 6) (s.2 7)) (drwI a1 (s.2 6 2) 0) := fun h => by rw [h])
  (try have h00 := (hm_b hg (drwI_b (sd := a1) (k := 0) hN2).1 (drwI_b (sd := a1) (k := 0) hN2).2).1)
  (try have hzz := hI.2.2.2.2.2.2.2.2.1)
  (try unfold lex3)
  (try simp only [bI_0, bI_n, Classical.not_not] at *)
  (try simp (disch := omega) only [i32_id] at *)
  first | done | omega | ((repeat' (with_reducible apply And.intro)) <;> first | assumption | rfl | omega | (exact hI.1) | (exact hI.2.1) | (exact hq) | (unfold rEvening; rw [if_neg (by omega)]) | (exact hI.2.2.1.1) | (exact MT_0 (fun z a b => hI.2.2.2.2 z a (by omega))) | (exact Or.inl ⟨rfl, rfl⟩) | (intro z h0 h1; omega) | (exact upto_s (p := fun z v => v = 0) hI.2.2.2.2 rfl) | (exact MT_s hI.2.2.2.2.2.1 (by omega)) | (unfold rEvening; rw [if_pos (by omega), if_pos (by omega), hI.2.2.2.2.2.2.1, show x10 = a2 by omega]) | (unfold rEvening; rw [if_pos (by omega), if_neg (by omega), if_pos (by omega), hI.2.2.2.2.2.2.2.1, show x10 = a2 by omega]) | (unfold rEvening; rw [if_pos (by omega), if_neg (by omega), if_neg (by omega), hI.2.2.2.2.2.2.2.2.2, show x10 = a2 by omega]) | grind [upI])
theorem vX3_evening_24 (s : MS) (a1 : Int) (a2 : Int) (a3 : Int) (hp : tOK (s.2 6) ∧ aOK (s.2 6) (s.2 7) ∧ lOK ((s.2 5) 0) (s.2 6)) (x2 : Int) (x3 : Int) (x4 : Int) (x6 : Int) (x7 : Int) (x8 : Int) (x9 : Int) (x10 : Int) (f11 : Int → Int) (f12 : Int → Int) (f13 : Int → Int) (f14 : Int → Int) (f15 : Int → Int) (f16 : Int → Int) (f17 : Int → Int) (f18 : Int → Int) (f19 : Int → Int) (k0 : Int) (k25 : Int) (k33 : Int) (k34 : Int) (hI : k0 = 0 ∧ GO (s.2 6) (s.2 7) f13 f14 f15 f16 ∧ (x2 = a2 ∧ x3 = a3 ∧ 0 < s.2 5 0 ∧ 0 ≤ a1 ∧ a1 ≤ 2000000000 ∧ 1 ≤ a2 ∧ a2 ≤ 100 ∧ 0 ≤ a3 ∧ a3 ≤ 2) ∧ (0 ≤ x10 ∧ x10 ≤ a2) ∧ x4 = drw a1 x10.toNat ∧ MT (fun k => hm (nx (s.2 6) (s.2 7)) (drwI a1 (s.2 6 2) k)) f17 (s.2 6 2) x10 ∧ x6 = sumI (newK (fun k => hm (nx (s.2 6) (s.2 7)) (drwI a1 (s.2 6 2) k))) x10.toNat ∧ x7 = maxI 0 (fun k => tl (nx (s.2 6) (s.2 7)) (drwI a1 (s.2 6 2) k)) x10.toNat ∧ ((x10 = 0 ∧ x8 = -1) ∨ (0 < x10 ∧ x8 = hm (nx (s.2 6) (s.2 7)) (drwI a1 (s.2 6 2) 0))) ∧ x9 = many (fun k => hm (nx (s.2 6) (s.2 7)) (drwI a1 (s.2 6 2) k) = hm (nx (s.2 6) (s.2 7)) (drwI a1 (s.2 6 2) 0)) x10.toNat) (c_1 : ¬ x2 ≤ x10) (o_4 : (s.2 6 2) ≠ 0) (c_5 : ¬ x8 = (-1)) (o_6 : (0 ≤ (i32 (i64 (Int.tmod (i64 (Int.tdiv (i64 (Int.tmod (i64 ((i64 (1103515245 * x4)) + 12345)) 2147483648)) 65536)) (s.2 6 2)))) ∧ (i32 (i64 (Int.tmod (i64 (Int.tdiv (i64 (Int.tmod (i64 ((i64 (1103515245 * x4)) + 12345)) 2147483648)) 65536)) (s.2 6 2)))) < 10000)) (o_7 : (0 ≤ (f15 (i32 (i64 (Int.tmod (i64 (Int.tdiv (i64 (Int.tmod (i64 ((i64 (1103515245 * x4)) + 12345)) 2147483648)) 65536)) (s.2 6 2))))) ∧ (f15 (i32 (i64 (Int.tmod (i64 (Int.tdiv (i64 (Int.tmod (i64 ((i64 (1103515245 * x4)) + 12345)) 2147483648)) 65536)) (s.2 6 2))))) < 10000)) (c_8 : (f17 (f15 (i32 (i64 (Int.tmod (i64 (Int.tdiv (i64 (Int.tmod (i64 ((i64 (1103515245 * x4)) + 12345)) 2147483648)) 65536)) (s.2 6 2)))))) = 0) (c_12 : (f14 (i32 (i64 (Int.tmod (i64 (Int.tdiv (i64 (Int.tmod (i64 ((i64 (1103515245 * x4)) + 12345)) 2147483648)) 65536)) (s.2 6 2))))) ≤ x7) (c_13 : ¬ (f15 (i32 (i64 (Int.tmod (i64 (Int.tdiv (i64 (Int.tmod (i64 ((i64 (1103515245 * x4)) + 12345)) 2147483648)) 65536)) (s.2 6 2))))) = x8) : lex3 0 0 ((a2 - (i32 (x10 + 1))).toNat) 0 0 ((a2 - x10).toNat) := by
  obtain ⟨ht, ha, hl⟩ := hp
  have hN := tOK_N ht
  have hg := nx_rng (s.2 6) (s.2 7)
  (try simp only [bI_0, bI_n, Classical.not_not] at *)
  (try have hq := ‹GO (s.2 6) (s.2 7) _ _ _ _›)
  (try have hq := hI.2.1)
  (try have hx := GO_at hq (x := a1) (by omega) (by omega))
  (try have hN2 : 0 < s.2 6 2 := lOK_N ht hl (by omega))
  (try have hdb := drwI_b (sd := a1) (k := x10) hN2)
  (try have hd1 := drw_s (sd := a1) (by omega) (by omega) (by omega) hI.2.2.2.2.1)
  (try have hdi := drw_i (sd := a1) (N := s.2 6 2) (k := x10) (by omega) (by omega) hN2 (by omega) rfl)
  (try simp only [hd1, hdi] at *)
  (try have hy := GO_at hq hdb.1 hdb.2)
  (try (have y1 := hy.2.1.1; have y2 := hy.1.2.1; have y3 := hy.2.1.2; have y4 := hy.1.2.2))
  (try (clear hy; simp only [y1, y2] at *))
  (try have hs := sumI_s (newK (fun k => hm (nx (s.2 6) (s.2 7)) (drwI a1 (s.2 6 2) k))) (k := x10) (by omega))
  (try have hsb := sumI_b (f := newK (fun k => hm (nx (s.2 6) (s.2 7)) (drwI a1 (s.2 6 2) k))) x10.toNat (fun i _ _ => newK_01 _ _))
  (try have hn : (f17 (hm (nx (s.2 6) (s.2 7)) (drwI a1 (s.2 6 2) x10)) = 0 → newK (fun k => hm (nx (s.2 6) (s.2 7)) (drwI a1 (s.2 6 2) k)) x10 = 1) ∧ (¬ f17 (hm (nx (s.2 6) (s.2 7)) (drwI a1 (s.2 6 2) x10)) = 0 → newK (fun k => hm (nx (s.2 6) (s.2 7)) (drwI a1 (s.2 6 2) k)) x10 = 0) := MT_new hI.2.2.2.2.2.1 y3)
  (try have hm1 : maxI 0 (fun k => tl (nx (s.2 6) (s.2 7)) (drwI a1 (s.2 6 2) k)) x10.toNat < tl (nx (s.2 6) (s.2 7)) (drwI a1 (s.2 6 2) x10) → maxI 0 (fun k => tl (nx (s.2 6) (s.2 7)) (drwI a1 (s.2 6 2) k)) (x10 + 1).toNat = tl (nx (s.2 6) (s.2 7)) (drwI a1 (s.2 6 2) x10) := max_hit (by omega))
  (try have hm2 : ¬ maxI 0 (fun k => tl (nx (s.2 6) (s.2 7)) (drwI a1 (s.2 6 2) k)) x10.toNat < tl (nx (s.2 6) (s.2 7)) (drwI a1 (s.2 6 2) x10) → maxI 0 (fun k => tl (nx (s.2 6) (s.2 7)) (drwI a1 (s.2 6 2) k)) (x10 + 1).toNat = maxI 0 (fun k => tl (nx (s.2 6) (s.2 7)) (drwI a1 (s.2 6 2) k)) x10.toNat := max_not (by omega))
  (try have hb := many_b (fun k => hm (nx (s.2 6) (s.2 7)) (drwI a1 (s.2 6 2) k) = hm (nx (s.2 6) (s.2 7)) (drwI a1 (s.2 6 2) 0)) x10.toNat)
  (try have hS1 : hm (nx (s.2 6) (s.2 7)) (drwI a1 (s.2 6 2) x10) = hm (nx (s.2 6) (s.2 7)) (drwI a1 (s.2 6 2) 0) → many (fun k => hm (nx (s.2 6) (s.2 7)) (drwI a1 (s.2 6 2) k) = hm (nx (s.2 6) (s.2 7)) (drwI a1 (s.2 6 2) 0)) (x10 + 1).toNat = many (fun k => hm (nx (s.2 6) (s.2 7)) (drwI a1 (s.2 6 2) k) = hm (nx (s.2 6) (s.2 7)) (drwI a1 (s.2 6 2) 0)) x10.toNat + 1 := fun h => many_t (by omega) h)
  (try have hS2 : ¬ hm (nx (s.2 6) (s.2 7)) (drwI a1 (s.2 6 2) x10) = hm (nx (s.2 6) (s.2 7)) (drwI a1 (s.2 6 2) 0) → many (fun k => hm (nx (s.2 6) (s.2 7)) (drwI a1 (s.2 6 2) k) = hm (nx (s.2 6) (s.2 7)) (drwI a1 (s.2 6 2) 0)) (x10 + 1).toNat = many (fun k => hm (nx (s.2 6) (s.2 7)) (drwI a1 (s.2 6 2) k) = hm (nx (s.2 6) (s.2 7)) (drwI a1 (s.2 6 2) 0)) x10.toNat := fun h => many_f (by omega) h)
  (try have hz : x10 = 0 → hm (nx (s.2 6) (s.2 7)) (drwI a1 (s.2 6 2) x10) = hm (nx (s.2 6) (s.2 7)) (drwI a1 (s.2 6 2) 0) := fun h => by rw [h])
  (try have h00 := (hm_b hg (drwI_b (sd := a1) (k := 0) hN2).1 (drwI_b (sd := a1) (k := 0) hN2).2).1)
  (try have hzz := hI.2.2.2.2.2.2.2.2.1)
  (try unfold lex3)
  (try simp only [bI_0, bI_n, Classical.not_not] at *)
  (try simp (disch := omega) only [i32_id] at *)
  first | done | omega | ((repeat' (with_reducible apply And.intro)) <;> first | assumption | rfl | omega | (exact hI.1) | (exact hI.2.1) | (exact hq) | (unfold rEvening; rw [if_neg (by omega)]) | (exact hI.2.2.1.1) | (exact MT_0 (fun z a b => hI.2.2.2.2 z a (by omega))) | (exact Or.inl ⟨rfl, rfl⟩) | (intro z h0 h1; omega) | (exact upto_s (p := fun z v => v = 0) hI.2.2.2.2 rfl) | (exact MT_s hI.2.2.2.2.2.1 (by omega)) | (unfold rEvening; rw [if_pos (by omega), if_pos (by omega), hI.2.2.2.2.2.2.1, show x10 = a2 by omega]) | (unfold rEvening; rw [if_pos (by omega), if_neg (by omega), if_pos (by omega), hI.2.2.2.2.2.2.2.1, show x10 = a2 by omega]) | (unfold rEvening; rw [if_pos (by omega), if_neg (by omega), if_neg (by omega), hI.2.2.2.2.2.2.2.2.2, show x10 = a2 by omega]) | grind [upI])
theorem vX3_evening_25 (s : MS) (a1 : Int) (a2 : Int) (a3 : Int) (hp : tOK (s.2 6) ∧ aOK (s.2 6) (s.2 7) ∧ lOK ((s.2 5) 0) (s.2 6)) (x2 : Int) (x3 : Int) (x4 : Int) (x6 : Int) (x7 : Int) (x8 : Int) (x9 : Int) (x10 : Int) (f11 : Int → Int) (f12 : Int → Int) (f13 : Int → Int) (f14 : Int → Int) (f15 : Int → Int) (f16 : Int → Int) (f17 : Int → Int) (f18 : Int → Int) (f19 : Int → Int) (k0 : Int) (k25 : Int) (k33 : Int) (k34 : Int) (hI : k0 = 0 ∧ GO (s.2 6) (s.2 7) f13 f14 f15 f16 ∧ (x2 = a2 ∧ x3 = a3 ∧ 0 < s.2 5 0 ∧ 0 ≤ a1 ∧ a1 ≤ 2000000000 ∧ 1 ≤ a2 ∧ a2 ≤ 100 ∧ 0 ≤ a3 ∧ a3 ≤ 2) ∧ (0 ≤ x10 ∧ x10 ≤ a2) ∧ x4 = drw a1 x10.toNat ∧ MT (fun k => hm (nx (s.2 6) (s.2 7)) (drwI a1 (s.2 6 2) k)) f17 (s.2 6 2) x10 ∧ x6 = sumI (newK (fun k => hm (nx (s.2 6) (s.2 7)) (drwI a1 (s.2 6 2) k))) x10.toNat ∧ x7 = maxI 0 (fun k => tl (nx (s.2 6) (s.2 7)) (drwI a1 (s.2 6 2) k)) x10.toNat ∧ ((x10 = 0 ∧ x8 = -1) ∨ (0 < x10 ∧ x8 = hm (nx (s.2 6) (s.2 7)) (drwI a1 (s.2 6 2) 0))) ∧ x9 = many (fun k => hm (nx (s.2 6) (s.2 7)) (drwI a1 (s.2 6 2) k) = hm (nx (s.2 6) (s.2 7)) (drwI a1 (s.2 6 2) 0)) x10.toNat) (c_1 : ¬ x2 ≤ x10) (o_4 : (s.2 6 2) ≠ 0) (c_5 : ¬ x8 = (-1)) (o_6 : (0 ≤ (i32 (i64 (Int.tmod (i64 (Int.tdiv (i64 (Int.tmod (i64 ((i64 (1103515245 * x4)) + 12345)) 2147483648)) 65536)) (s.2 6 2)))) ∧ (i32 (i64 (Int.tmod (i64 (Int.tdiv (i64 (Int.tmod (i64 ((i64 (1103515245 * x4)) + 12345)) 2147483648)) 65536)) (s.2 6 2)))) < 10000)) (o_7 : (0 ≤ (f15 (i32 (i64 (Int.tmod (i64 (Int.tdiv (i64 (Int.tmod (i64 ((i64 (1103515245 * x4)) + 12345)) 2147483648)) 65536)) (s.2 6 2))))) ∧ (f15 (i32 (i64 (Int.tmod (i64 (Int.tdiv (i64 (Int.tmod (i64 ((i64 (1103515245 * x4)) + 12345)) 2147483648)) 65536)) (s.2 6 2))))) < 10000)) (c_8 : (f17 (f15 (i32 (i64 (Int.tmod (i64 (Int.tdiv (i64 (Int.tmod (i64 ((i64 (1103515245 * x4)) + 12345)) 2147483648)) 65536)) (s.2 6 2)))))) = 0) (c_12 : (f14 (i32 (i64 (Int.tmod (i64 (Int.tdiv (i64 (Int.tmod (i64 ((i64 (1103515245 * x4)) + 12345)) 2147483648)) 65536)) (s.2 6 2))))) ≤ x7) (c_13 : (f15 (i32 (i64 (Int.tmod (i64 (Int.tdiv (i64 (Int.tmod (i64 ((i64 (1103515245 * x4)) + 12345)) 2147483648)) 65536)) (s.2 6 2))))) = x8) : k0 = 0 ∧ GO (s.2 6) (s.2 7) f13 f14 f15 f16 ∧ (x2 = a2 ∧ x3 = a3 ∧ 0 < s.2 5 0 ∧ 0 ≤ a1 ∧ a1 ≤ 2000000000 ∧ 1 ≤ a2 ∧ a2 ≤ 100 ∧ 0 ≤ a3 ∧ a3 ≤ 2) ∧ (0 ≤ (i32 (x10 + 1)) ∧ (i32 (x10 + 1)) ≤ a2) ∧ (i64 (Int.tmod (i64 ((i64 (1103515245 * x4)) + 12345)) 2147483648)) = drw a1 (i32 (x10 + 1)).toNat ∧ MT (fun k => hm (nx (s.2 6) (s.2 7)) (drwI a1 (s.2 6 2) k)) (upI f17 (f15 (i32 (i64 (Int.tmod (i64 (Int.tdiv (i64 (Int.tmod (i64 ((i64 (1103515245 * x4)) + 12345)) 2147483648)) 65536)) (s.2 6 2))))) 1) (s.2 6 2) (i32 (x10 + 1)) ∧ (i32 (x6 + 1)) = sumI (newK (fun k => hm (nx (s.2 6) (s.2 7)) (drwI a1 (s.2 6 2) k))) (i32 (x10 + 1)).toNat ∧ x7 = maxI 0 (fun k => tl (nx (s.2 6) (s.2 7)) (drwI a1 (s.2 6 2) k)) (i32 (x10 + 1)).toNat ∧ (((i32 (x10 + 1)) = 0 ∧ x8 = -1) ∨ (0 < (i32 (x10 + 1)) ∧ x8 = hm (nx (s.2 6) (s.2 7)) (drwI a1 (s.2 6 2) 0))) ∧ (i32 (x9 + 1)) = many (fun k => hm (nx (s.2 6) (s.2 7)) (drwI a1 (s.2 6 2) k) = hm (nx (s.2 6) (s.2 7)) (drwI a1 (s.2 6 2) 0)) (i32 (x10 + 1)).toNat := by
  obtain ⟨ht, ha, hl⟩ := hp
  have hN := tOK_N ht
  have hg := nx_rng (s.2 6) (s.2 7)
  (try simp only [bI_0, bI_n, Classical.not_not] at *)
  (try have hq := ‹GO (s.2 6) (s.2 7) _ _ _ _›)
  (try have hq := hI.2.1)
  (try have hx := GO_at hq (x := a1) (by omega) (by omega))
  (try have hN2 : 0 < s.2 6 2 := lOK_N ht hl (by omega))
  (try have hdb := drwI_b (sd := a1) (k := x10) hN2)
  (try have hd1 := drw_s (sd := a1) (by omega) (by omega) (by omega) hI.2.2.2.2.1)
  (try have hdi := drw_i (sd := a1) (N := s.2 6 2) (k := x10) (by omega) (by omega) hN2 (by omega) rfl)
  (try simp only [hd1, hdi] at *)
  (try have hy := GO_at hq hdb.1 hdb.2)
  (try (have y1 := hy.2.1.1; have y2 := hy.1.2.1; have y3 := hy.2.1.2; have y4 := hy.1.2.2))
  (try (clear hy; simp only [y1, y2] at *))
  (try have hs := sumI_s (newK (fun k => hm (nx (s.2 6) (s.2 7)) (drwI a1 (s.2 6 2) k))) (k := x10) (by omega))
  (try have hsb := sumI_b (f := newK (fun k => hm (nx (s.2 6) (s.2 7)) (drwI a1 (s.2 6 2) k))) x10.toNat (fun i _ _ => newK_01 _ _))
  (try have hn : (f17 (hm (nx (s.2 6) (s.2 7)) (drwI a1 (s.2 6 2) x10)) = 0 → newK (fun k => hm (nx (s.2 6) (s.2 7)) (drwI a1 (s.2 6 2) k)) x10 = 1) ∧ (¬ f17 (hm (nx (s.2 6) (s.2 7)) (drwI a1 (s.2 6 2) x10)) = 0 → newK (fun k => hm (nx (s.2 6) (s.2 7)) (drwI a1 (s.2 6 2) k)) x10 = 0) := MT_new hI.2.2.2.2.2.1 y3)
  (try have hm1 : maxI 0 (fun k => tl (nx (s.2 6) (s.2 7)) (drwI a1 (s.2 6 2) k)) x10.toNat < tl (nx (s.2 6) (s.2 7)) (drwI a1 (s.2 6 2) x10) → maxI 0 (fun k => tl (nx (s.2 6) (s.2 7)) (drwI a1 (s.2 6 2) k)) (x10 + 1).toNat = tl (nx (s.2 6) (s.2 7)) (drwI a1 (s.2 6 2) x10) := max_hit (by omega))
  (try have hm2 : ¬ maxI 0 (fun k => tl (nx (s.2 6) (s.2 7)) (drwI a1 (s.2 6 2) k)) x10.toNat < tl (nx (s.2 6) (s.2 7)) (drwI a1 (s.2 6 2) x10) → maxI 0 (fun k => tl (nx (s.2 6) (s.2 7)) (drwI a1 (s.2 6 2) k)) (x10 + 1).toNat = maxI 0 (fun k => tl (nx (s.2 6) (s.2 7)) (drwI a1 (s.2 6 2) k)) x10.toNat := max_not (by omega))
  (try have hb := many_b (fun k => hm (nx (s.2 6) (s.2 7)) (drwI a1 (s.2 6 2) k) = hm (nx (s.2 6) (s.2 7)) (drwI a1 (s.2 6 2) 0)) x10.toNat)
  (try have hS1 : hm (nx (s.2 6) (s.2 7)) (drwI a1 (s.2 6 2) x10) = hm (nx (s.2 6) (s.2 7)) (drwI a1 (s.2 6 2) 0) → many (fun k => hm (nx (s.2 6) (s.2 7)) (drwI a1 (s.2 6 2) k) = hm (nx (s.2 6) (s.2 7)) (drwI a1 (s.2 6 2) 0)) (x10 + 1).toNat = many (fun k => hm (nx (s.2 6) (s.2 7)) (drwI a1 (s.2 6 2) k) = hm (nx (s.2 6) (s.2 7)) (drwI a1 (s.2 6 2) 0)) x10.toNat + 1 := fun h => many_t (by omega) h)
  (try have hS2 : ¬ hm (nx (s.2 6) (s.2 7)) (drwI a1 (s.2 6 2) x10) = hm (nx (s.2 6) (s.2 7)) (drwI a1 (s.2 6 2) 0) → many (fun k => hm (nx (s.2 6) (s.2 7)) (drwI a1 (s.2 6 2) k) = hm (nx (s.2 6) (s.2 7)) (drwI a1 (s.2 6 2) 0)) (x10 + 1).toNat = many (fun k => hm (nx (s.2 6) (s.2 7)) (drwI a1 (s.2 6 2) k) = hm (nx (s.2 6) (s.2 7)) (drwI a1 (s.2 6 2) 0)) x10.toNat := fun h => many_f (by omega) h)
  (try have hz : x10 = 0 → hm (nx (s.2 6) (s.2 7)) (drwI a1 (s.2 6 2) x10) = hm (nx (s.2 6) (s.2 7)) (drwI a1 (s.2 6 2) 0) := fun h => by rw [h])
  (try have h00 := (hm_b hg (drwI_b (sd := a1) (k := 0) hN2).1 (drwI_b (sd := a1) (k := 0) hN2).2).1)
  (try have hzz := hI.2.2.2.2.2.2.2.2.1)
  (try unfold lex3)
  (try simp only [bI_0, bI_n, Classical.not_not] at *)
  (try simp (disch := omega) only [i32_id] at *)
  first | done | omega | ((repeat' (with_reducible apply And.intro)) <;> first | assumption | rfl | omega | (exact hI.1) | (exact hI.2.1) | (exact hq) | (unfold rEvening; rw [if_neg (by omega)]) | (exact hI.2.2.1.1) | (exact MT_0 (fun z a b => hI.2.2.2.2 z a (by omega))) | (exact Or.inl ⟨rfl, rfl⟩) | (intro z h0 h1; omega) | (exact upto_s (p := fun z v => v = 0) hI.2.2.2.2 rfl) | (exact MT_s hI.2.2.2.2.2.1 (by omega)) | (unfold rEvening; rw [if_pos (by omega), if_pos (by omega), hI.2.2.2.2.2.2.1, show x10 = a2 by omega]) | (unfold rEvening; rw [if_pos (by omega), if_neg (by omega), if_pos (by omega), hI.2.2.2.2.2.2.2.1, show x10 = a2 by omega]) | (unfold rEvening; rw [if_pos (by omega), if_neg (by omega), if_neg (by omega), hI.2.2.2.2.2.2.2.2.2, show x10 = a2 by omega]) | grind [upI])
theorem vX3_evening_26 (s : MS) (a1 : Int) (a2 : Int) (a3 : Int) (hp : tOK (s.2 6) ∧ aOK (s.2 6) (s.2 7) ∧ lOK ((s.2 5) 0) (s.2 6)) (x2 : Int) (x3 : Int) (x4 : Int) (x6 : Int) (x7 : Int) (x8 : Int) (x9 : Int) (x10 : Int) (f11 : Int → Int) (f12 : Int → Int) (f13 : Int → Int) (f14 : Int → Int) (f15 : Int → Int) (f16 : Int → Int) (f17 : Int → Int) (f18 : Int → Int) (f19 : Int → Int) (k0 : Int) (k25 : Int) (k33 : Int) (k34 : Int) (hI : k0 = 0 ∧ GO (s.2 6) (s.2 7) f13 f14 f15 f16 ∧ (x2 = a2 ∧ x3 = a3 ∧ 0 < s.2 5 0 ∧ 0 ≤ a1 ∧ a1 ≤ 2000000000 ∧ 1 ≤ a2 ∧ a2 ≤ 100 ∧ 0 ≤ a3 ∧ a3 ≤ 2) ∧ (0 ≤ x10 ∧ x10 ≤ a2) ∧ x4 = drw a1 x10.toNat ∧ MT (fun k => hm (nx (s.2 6) (s.2 7)) (drwI a1 (s.2 6 2) k)) f17 (s.2 6 2) x10 ∧ x6 = sumI (newK (fun k => hm (nx (s.2 6) (s.2 7)) (drwI a1 (s.2 6 2) k))) x10.toNat ∧ x7 = maxI 0 (fun k => tl (nx (s.2 6) (s.2 7)) (drwI a1 (s.2 6 2) k)) x10.toNat ∧ ((x10 = 0 ∧ x8 = -1) ∨ (0 < x10 ∧ x8 = hm (nx (s.2 6) (s.2 7)) (drwI a1 (s.2 6 2) 0))) ∧ x9 = many (fun k => hm (nx (s.2 6) (s.2 7)) (drwI a1 (s.2 6 2) k) = hm (nx (s.2 6) (s.2 7)) (drwI a1 (s.2 6 2) 0)) x10.toNat) (c_1 : ¬ x2 ≤ x10) (o_4 : (s.2 6 2) ≠ 0) (c_5 : ¬ x8 = (-1)) (o_6 : (0 ≤ (i32 (i64 (Int.tmod (i64 (Int.tdiv (i64 (Int.tmod (i64 ((i64 (1103515245 * x4)) + 12345)) 2147483648)) 65536)) (s.2 6 2)))) ∧ (i32 (i64 (Int.tmod (i64 (Int.tdiv (i64 (Int.tmod (i64 ((i64 (1103515245 * x4)) + 12345)) 2147483648)) 65536)) (s.2 6 2)))) < 10000)) (o_7 : (0 ≤ (f15 (i32 (i64 (Int.tmod (i64 (Int.tdiv (i64 (Int.tmod (i64 ((i64 (1103515245 * x4)) + 12345)) 2147483648)) 65536)) (s.2 6 2))))) ∧ (f15 (i32 (i64 (Int.tmod (i64 (Int.tdiv (i64 (Int.tmod (i64 ((i64 (1103515245 * x4)) + 12345)) 2147483648)) 65536)) (s.2 6 2))))) < 10000)) (c_8 : (f17 (f15 (i32 (i64 (Int.tmod (i64 (Int.tdiv (i64 (Int.tmod (i64 ((i64 (1103515245 * x4)) + 12345)) 2147483648)) 65536)) (s.2 6 2)))))) = 0) (c_12 : (f14 (i32 (i64 (Int.tmod (i64 (Int.tdiv (i64 (Int.tmod (i64 ((i64 (1103515245 * x4)) + 12345)) 2147483648)) 65536)) (s.2 6 2))))) ≤ x7) (c_13 : (f15 (i32 (i64 (Int.tmod (i64 (Int.tdiv (i64 (Int.tmod (i64 ((i64 (1103515245 * x4)) + 12345)) 2147483648)) 65536)) (s.2 6 2))))) = x8) : lex3 0 0 ((a2 - (i32 (x10 + 1))).toNat) 0 0 ((a2 - x10).toNat) := by
  obtain ⟨ht, ha, hl⟩ := hp
  have hN := tOK_N ht
  have hg := nx_rng (s.2 6) (s.2 7)
  (try simp only [bI_0, bI_n, Classical.not_not] at *)
  (try have hq := ‹GO (s.2 6) (s.2 7) _ _ _ _›)
  (try have hq := hI.2.1)
  (try have hx := GO_at hq (x := a1) (by omega) (by omega))
  (try have hN2 : 0 < s.2 6 2 := lOK_N ht hl (by omega))
  (try have hdb := drwI_b (sd := a1) (k := x10) hN2)
  (try have hd1 := drw_s (sd := a1) (by omega) (by omega) (by omega) hI.2.2.2.2.1)
  (try have hdi := drw_i (sd := a1) (N := s.2 6 2) (k := x10) (by omega) (by omega) hN2 (by omega) rfl)
  (try simp only [hd1, hdi] at *)
  (try have hy := GO_at hq hdb.1 hdb.2)
  (try (have y1 := hy.2.1.1; have y2 := hy.1.2.1; have y3 := hy.2.1.2; have y4 := hy.1.2.2))
  (try (clear hy; simp only [y1, y2] at *))
  (try have hs := sumI_s (newK (fun k => hm (nx (s.2 6) (s.2 7)) (drwI a1 (s.2 6 2) k))) (k := x10) (by omega))
  (try have hsb := sumI_b (f := newK (fun k => hm (nx (s.2 6) (s.2 7)) (drwI a1 (s.2 6 2) k))) x10.toNat (fun i _ _ => newK_01 _ _))
  (try have hn : (f17 (hm (nx (s.2 6) (s.2 7)) (drwI a1 (s.2 6 2) x10)) = 0 → newK (fun k => hm (nx (s.2 6) (s.2 7)) (drwI a1 (s.2 6 2) k)) x10 = 1) ∧ (¬ f17 (hm (nx (s.2 6) (s.2 7)) (drwI a1 (s.2 6 2) x10)) = 0 → newK (fun k => hm (nx (s.2 6) (s.2 7)) (drwI a1 (s.2 6 2) k)) x10 = 0) := MT_new hI.2.2.2.2.2.1 y3)
  (try have hm1 : maxI 0 (fun k => tl (nx (s.2 6) (s.2 7)) (drwI a1 (s.2 6 2) k)) x10.toNat < tl (nx (s.2 6) (s.2 7)) (drwI a1 (s.2 6 2) x10) → maxI 0 (fun k => tl (nx (s.2 6) (s.2 7)) (drwI a1 (s.2 6 2) k)) (x10 + 1).toNat = tl (nx (s.2 6) (s.2 7)) (drwI a1 (s.2 6 2) x10) := max_hit (by omega))
  (try have hm2 : ¬ maxI 0 (fun k => tl (nx (s.2 6) (s.2 7)) (drwI a1 (s.2 6 2) k)) x10.toNat < tl (nx (s.2 6) (s.2 7)) (drwI a1 (s.2 6 2) x10) → maxI 0 (fun k => tl (nx (s.2 6) (s.2 7)) (drwI a1 (s.2 6 2) k)) (x10 + 1).toNat = maxI 0 (fun k => tl (nx (s.2 6) (s.2 7)) (drwI a1 (s.2 6 2) k)) x10.toNat := max_not (by omega))
  (try have hb := many_b (fun k => hm (nx (s.2 6) (s.2 7)) (drwI a1 (s.2 6 2) k) = hm (nx (s.2 6) (s.2 7)) (drwI a1 (s.2 6 2) 0)) x10.toNat)
  (try have hS1 : hm (nx (s.2 6) (s.2 7)) (drwI a1 (s.2 6 2) x10) = hm (nx (s.2 6) (s.2 7)) (drwI a1 (s.2 6 2) 0) → many (fun k => hm (nx (s.2 6) (s.2 7)) (drwI a1 (s.2 6 2) k) = hm (nx (s.2 6) (s.2 7)) (drwI a1 (s.2 6 2) 0)) (x10 + 1).toNat = many (fun k => hm (nx (s.2 6) (s.2 7)) (drwI a1 (s.2 6 2) k) = hm (nx (s.2 6) (s.2 7)) (drwI a1 (s.2 6 2) 0)) x10.toNat + 1 := fun h => many_t (by omega) h)
  (try have hS2 : ¬ hm (nx (s.2 6) (s.2 7)) (drwI a1 (s.2 6 2) x10) = hm (nx (s.2 6) (s.2 7)) (drwI a1 (s.2 6 2) 0) → many (fun k => hm (nx (s.2 6) (s.2 7)) (drwI a1 (s.2 6 2) k) = hm (nx (s.2 6) (s.2 7)) (drwI a1 (s.2 6 2) 0)) (x10 + 1).toNat = many (fun k => hm (nx (s.2 6) (s.2 7)) (drwI a1 (s.2 6 2) k) = hm (nx (s.2 6) (s.2 7)) (drwI a1 (s.2 6 2) 0)) x10.toNat := fun h => many_f (by omega) h)
  (try have hz : x10 = 0 → hm (nx (s.2 6) (s.2 7)) (drwI a1 (s.2 6 2) x10) = hm (nx (s.2 6) (s.2 7)) (drwI a1 (s.2 6 2) 0) := fun h => by rw [h])
  (try have h00 := (hm_b hg (drwI_b (sd := a1) (k := 0) hN2).1 (drwI_b (sd := a1) (k := 0) hN2).2).1)
  (try have hzz := hI.2.2.2.2.2.2.2.2.1)
  (try unfold lex3)
  (try simp only [bI_0, bI_n, Classical.not_not] at *)
  (try simp (disch := omega) only [i32_id] at *)
  first | done | omega | ((repeat' (with_reducible apply And.intro)) <;> first | assumption | rfl | omega | (exact hI.1) | (exact hI.2.1) | (exact hq) | (unfold rEvening; rw [if_neg (by omega)]) | (exact hI.2.2.1.1) | (exact MT_0 (fun z a b => hI.2.2.2.2 z a (by omega))) | (exact Or.inl ⟨rfl, rfl⟩) | (intro z h0 h1; omega) | (exact upto_s (p := fun z v => v = 0) hI.2.2.2.2 rfl) | (exact MT_s hI.2.2.2.2.2.1 (by omega)) | (unfold rEvening; rw [if_pos (by omega), if_pos (by omega), hI.2.2.2.2.2.2.1, show x10 = a2 by omega]) | (unfold rEvening; rw [if_pos (by omega), if_neg (by omega), if_pos (by omega), hI.2.2.2.2.2.2.2.1, show x10 = a2 by omega]) | (unfold rEvening; rw [if_pos (by omega), if_neg (by omega), if_neg (by omega), hI.2.2.2.2.2.2.2.2.2, show x10 = a2 by omega]) | grind [upI])
theorem vX3_evening_27 (s : MS) (a1 : Int) (a2 : Int) (a3 : Int) (hp : tOK (s.2 6) ∧ aOK (s.2 6) (s.2 7) ∧ lOK ((s.2 5) 0) (s.2 6)) (x2 : Int) (x3 : Int) (x4 : Int) (x6 : Int) (x7 : Int) (x8 : Int) (x9 : Int) (x10 : Int) (f11 : Int → Int) (f12 : Int → Int) (f13 : Int → Int) (f14 : Int → Int) (f15 : Int → Int) (f16 : Int → Int) (f17 : Int → Int) (f18 : Int → Int) (f19 : Int → Int) (k0 : Int) (k25 : Int) (k33 : Int) (k34 : Int) (hI : k0 = 0 ∧ GO (s.2 6) (s.2 7) f13 f14 f15 f16 ∧ (x2 = a2 ∧ x3 = a3 ∧ 0 < s.2 5 0 ∧ 0 ≤ a1 ∧ a1 ≤ 2000000000 ∧ 1 ≤ a2 ∧ a2 ≤ 100 ∧ 0 ≤ a3 ∧ a3 ≤ 2) ∧ (0 ≤ x10 ∧ x10 ≤ a2) ∧ x4 = drw a1 x10.toNat ∧ MT (fun k => hm (nx (s.2 6) (s.2 7)) (drwI a1 (s.2 6 2) k)) f17 (s.2 6 2) x10 ∧ x6 = sumI (newK (fun k => hm (nx (s.2 6) (s.2 7)) (drwI a1 (s.2 6 2) k))) x10.toNat ∧ x7 = maxI 0 (fun k => tl (nx (s.2 6) (s.2 7)) (drwI a1 (s.2 6 2) k)) x10.toNat ∧ ((x10 = 0 ∧ x8 = -1) ∨ (0 < x10 ∧ x8 = hm (nx (s.2 6) (s.2 7)) (drwI a1 (s.2 6 2) 0))) ∧ x9 = many (fun k => hm (nx (s.2 6) (s.2 7)) (drwI a1 (s.2 6 2) k) = hm (nx (s.2 6) (s.2 7)) (drwI a1 (s.2 6 2) 0)) x10.toNat) (c_1 : ¬ x2 ≤ x10) (o_4 : (s.2 6 2) ≠ 0) (c_5 : ¬ x8 = (-1)) (o_6 : (0 ≤ (i32 (i64 (Int.tmod (i64 (Int.tdiv (i64 (Int.tmod (i64 ((i64 (1103515245 * x4)) + 12345)) 2147483648)) 65536)) (s.2 6 2)))) ∧ (i32 (i64 (Int.tmod (i64 (Int.tdiv (i64 (Int.tmod (i64 ((i64 (1103515245 * x4)) + 12345)) 2147483648)) 65536)) (s.2 6 2)))) < 10000)) (o_7 : (0 ≤ (f15 (i32 (i64 (Int.tmod (i64 (Int.tdiv (i64 (Int.tmod (i64 ((i64 (1103515245 * x4)) + 12345)) 2147483648)) 65536)) (s.2 6 2))))) ∧ (f15 (i32 (i64 (Int.tmod (i64 (Int.tdiv (i64 (Int.tmod (i64 ((i64 (1103515245 * x4)) + 12345)) 2147483648)) 65536)) (s.2 6 2))))) < 10000)) (c_8 : (f17 (f15 (i32 (i64 (Int.tmod (i64 (Int.tdiv (i64 (Int.tmod (i64 ((i64 (1103515245 * x4)) + 12345)) 2147483648)) 65536)) (s.2 6 2)))))) = 0) (c_12 : ¬ (f14 (i32 (i64 (Int.tmod (i64 (Int.tdiv (i64 (Int.tmod (i64 ((i64 (1103515245 * x4)) + 12345)) 2147483648)) 65536)) (s.2 6 2))))) ≤ x7) (c_14 : ¬ (f15 (i32 (i64 (Int.tmod (i64 (Int.tdiv (i64 (Int.tmod (i64 ((i64 (1103515245 * x4)) + 12345)) 2147483648)) 65536)) (s.2 6 2))))) = x8) : k0 = 0 ∧ GO (s.2 6) (s.2 7) f13 f14 f15 f16 ∧ (x2 = a2 ∧ x3 = a3 ∧ 0 < s.2 5 0 ∧ 0 ≤ a1 ∧ a1 ≤ 2000000000 ∧ 1 ≤ a2 ∧ a2 ≤ 100 ∧ 0 ≤ a3 ∧ a3 ≤ 2) ∧ (0 ≤ (i32 (x10 + 1)) ∧ (i32 (x10 + 1)) ≤ a2) ∧ (i64 (Int.tmod (i64 ((i64 (1103515245 * x4)) + 12345)) 2147483648)) = drw a1 (i32 (x10 + 1)).toNat ∧ MT (fun k => hm (nx (s.2 6) (s.2 7)) (drwI a1 (s.2 6 2) k)) (upI f17 (f15 (i32 (i64 (Int.tmod (i64 (Int.tdiv (i64 (Int.tmod (i64 ((i64 (1103515245 * x4)) + 12345)) 2147483648)) 65536)) (s.2 6 2))))) 1) (s.2 6 2) (i32 (x10 + 1)) ∧ (i32 (x6 + 1)) = sumI (newK (fun k => hm (nx (s.2 6) (s.2 7)) (drwI a1 (s.2 6 2) k))) (i32 (x10 + 1)).toNat ∧ (f14 (i32 (i64 (Int.tmod (i64 (Int.tdiv (i64 (Int.tmod (i64 ((i64 (1103515245 * x4)) + 12345)) 2147483648)) 65536)) (s.2 6 2))))) = maxI 0 (fun k => tl (nx (s.2 6) (s.2 7)) (drwI a1 (s.2 6 2) k)) (i32 (x10 + 1)).toNat ∧ (((i32 (x10 + 1)) = 0 ∧ x8 = -1) ∨ (0 < (i32 (x10 + 1)) ∧ x8 = hm (nx (s.2 6) (s.2 7)) (drwI a1 (s.2 6 2) 0))) ∧ (i32 (x9 + 0)) = many (fun k => hm (nx (s.2 6) (s.2 7)) (drwI a1 (s.2 6 2) k) = hm (nx (s.2 6) (s.2 7)) (drwI a1 (s.2 6 2) 0)) (i32 (x10 + 1)).toNat := by
  obtain ⟨ht, ha, hl⟩ := hp
  have hN := tOK_N ht
  have hg := nx_rng (s.2 6) (s.2 7)
  (try simp only [bI_0, bI_n, Classical.not_not] at *)
  (try have hq := ‹GO (s.2 6) (s.2 7) _ _ _ _›)
  (try have hq := hI.2.1)
  (try have hx := GO_at hq (x := a1) (by omega) (by omega))
  (try have hN2 : 0 < s.2 6 2 := lOK_N ht hl (by omega))
  (try have hdb := drwI_b (sd := a1) (k := x10) hN2)
  (try have hd1 := drw_s (sd := a1) (by omega) (by omega) (by omega) hI.2.2.2.2.1)
  (try have hdi := drw_i (sd := a1) (N := s.2 6 2) (k := x10) (by omega) (by omega) hN2 (by omega) rfl)
  (try simp only [hd1, hdi] at *)
  (try have hy := GO_at hq hdb.1 hdb.2)
  (try (have y1 := hy.2.1.1; have y2 := hy.1.2.1; have y3 := hy.2.1.2; have y4 := hy.1.2.2))
  (try (clear hy; simp only [y1, y2] at *))
  (try have hs := sumI_s (newK (fun k => hm (nx (s.2 6) (s.2 7)) (drwI a1 (s.2 6 2) k))) (k := x10) (by omega))
  (try have hsb := sumI_b (f := newK (fun k => hm (nx (s.2 6) (s.2 7)) (drwI a1 (s.2 6 2) k))) x10.toNat (fun i _ _ => newK_01 _ _))
  (try have hn : (f17 (hm (nx (s.2 6) (s.2 7)) (drwI a1 (s.2 6 2) x10)) = 0 → newK (fun k => hm (nx (s.2 6) (s.2 7)) (drwI a1 (s.2 6 2) k)) x10 = 1) ∧ (¬ f17 (hm (nx (s.2 6) (s.2 7)) (drwI a1 (s.2 6 2) x10)) = 0 → newK (fun k => hm (nx (s.2 6) (s.2 7)) (drwI a1 (s.2 6 2) k)) x10 = 0) := MT_new hI.2.2.2.2.2.1 y3)
  (try have hm1 : maxI 0 (fun k => tl (nx (s.2 6) (s.2 7)) (drwI a1 (s.2 6 2) k)) x10.toNat < tl (nx (s.2 6) (s.2 7)) (drwI a1 (s.2 6 2) x10) → maxI 0 (fun k => tl (nx (s.2 6) (s.2 7)) (drwI a1 (s.2 6 2) k)) (x10 + 1).toNat = tl (nx (s.2 6) (s.2 7)) (drwI a1 (s.2 6 2) x10) := max_hit (by omega))
  (try have hm2 : ¬ maxI 0 (fun k => tl (nx (s.2 6) (s.2 7)) (drwI a1 (s.2 6 2) k)) x10.toNat < tl (nx (s.2 6) (s.2 7)) (drwI a1 (s.2 6 2) x10) → maxI 0 (fun k => tl (nx (s.2 6) (s.2 7)) (drwI a1 (s.2 6 2) k)) (x10 + 1).toNat = maxI 0 (fun k => tl (nx (s.2 6) (s.2 7)) (drwI a1 (s.2 6 2) k)) x10.toNat := max_not (by omega))
  (try have hb := many_b (fun k => hm (nx (s.2 6) (s.2 7)) (drwI a1 (s.2 6 2) k) = hm (nx (s.2 6) (s.2 7)) (drwI a1 (s.2 6 2) 0)) x10.toNat)
  (try have hS1 : hm (nx (s.2 6) (s.2 7)) (drwI a1 (s.2 6 2) x10) = hm (nx (s.2 6) (s.2 7)) (drwI a1 (s.2 6 2) 0) → many (fun k => hm (nx (s.2 6) (s.2 7)) (drwI a1 (s.2 6 2) k) = hm (nx (s.2 6) (s.2 7)) (drwI a1 (s.2 6 2) 0)) (x10 + 1).toNat = many (fun k => hm (nx (s.2 6) (s.2 7)) (drwI a1 (s.2 6 2) k) = hm (nx (s.2 6) (s.2 7)) (drwI a1 (s.2 6 2) 0)) x10.toNat + 1 := fun h => many_t (by omega) h)
  (try have hS2 : ¬ hm (nx (s.2 6) (s.2 7)) (drwI a1 (s.2 6 2) x10) = hm (nx (s.2 6) (s.2 7)) (drwI a1 (s.2 6 2) 0) → many (fun k => hm (nx (s.2 6) (s.2 7)) (drwI a1 (s.2 6 2) k) = hm (nx (s.2 6) (s.2 7)) (drwI a1 (s.2 6 2) 0)) (x10 + 1).toNat = many (fun k => hm (nx (s.2 6) (s.2 7)) (drwI a1 (s.2 6 2) k) = hm (nx (s.2 6) (s.2 7)) (drwI a1 (s.2 6 2) 0)) x10.toNat := fun h => many_f (by omega) h)
  (try have hz : x10 = 0 → hm (nx (s.2 6) (s.2 7)) (drwI a1 (s.2 6 2) x10) = hm (nx (s.2 6) (s.2 7)) (drwI a1 (s.2 6 2) 0) := fun h => by rw [h])
  (try have h00 := (hm_b hg (drwI_b (sd := a1) (k := 0) hN2).1 (drwI_b (sd := a1) (k := 0) hN2).2).1)
  (try have hzz := hI.2.2.2.2.2.2.2.2.1)
  (try unfold lex3)
  (try simp only [bI_0, bI_n, Classical.not_not] at *)
  (try simp (disch := omega) only [i32_id] at *)
  first | done | omega | ((repeat' (with_reducible apply And.intro)) <;> first | assumption | rfl | omega | (exact hI.1) | (exact hI.2.1) | (exact hq) | (unfold rEvening; rw [if_neg (by omega)]) | (exact hI.2.2.1.1) | (exact MT_0 (fun z a b => hI.2.2.2.2 z a (by omega))) | (exact Or.inl ⟨rfl, rfl⟩) | (intro z h0 h1; omega) | (exact upto_s (p := fun z v => v = 0) hI.2.2.2.2 rfl) | (exact MT_s hI.2.2.2.2.2.1 (by omega)) | (unfold rEvening; rw [if_pos (by omega), if_pos (by omega), hI.2.2.2.2.2.2.1, show x10 = a2 by omega]) | (unfold rEvening; rw [if_pos (by omega), if_neg (by omega), if_pos (by omega), hI.2.2.2.2.2.2.2.1, show x10 = a2 by omega]) | (unfold rEvening; rw [if_pos (by omega), if_neg (by omega), if_neg (by omega), hI.2.2.2.2.2.2.2.2.2, show x10 = a2 by omega]) | grind [upI])
theorem vX3_evening_28 (s : MS) (a1 : Int) (a2 : Int) (a3 : Int) (hp : tOK (s.2 6) ∧ aOK (s.2 6) (s.2 7) ∧ lOK ((s.2 5) 0) (s.2 6)) (x2 : Int) (x3 : Int) (x4 : Int) (x6 : Int) (x7 : Int) (x8 : Int) (x9 : Int) (x10 : Int) (f11 : Int → Int) (f12 : Int → Int) (f13 : Int → Int) (f14 : Int → Int) (f15 : Int → Int) (f16 : Int → Int) (f17 : Int → Int) (f18 : Int → Int) (f19 : Int → Int) (k0 : Int) (k25 : Int) (k33 : Int) (k34 : Int) (hI : k0 = 0 ∧ GO (s.2 6) (s.2 7) f13 f14 f15 f16 ∧ (x2 = a2 ∧ x3 = a3 ∧ 0 < s.2 5 0 ∧ 0 ≤ a1 ∧ a1 ≤ 2000000000 ∧ 1 ≤ a2 ∧ a2 ≤ 100 ∧ 0 ≤ a3 ∧ a3 ≤ 2) ∧ (0 ≤ x10 ∧ x10 ≤ a2) ∧ x4 = drw a1 x10.toNat ∧ MT (fun k => hm (nx (s.2 6) (s.2 7)) (drwI a1 (s.2 6 2) k)) f17 (s.2 6 2) x10 ∧ x6 = sumI (newK (fun k => hm (nx (s.2 6) (s.2 7)) (drwI a1 (s.2 6 2) k))) x10.toNat ∧ x7 = maxI 0 (fun k => tl (nx (s.2 6) (s.2 7)) (drwI a1 (s.2 6 2) k)) x10.toNat ∧ ((x10 = 0 ∧ x8 = -1) ∨ (0 < x10 ∧ x8 = hm (nx (s.2 6) (s.2 7)) (drwI a1 (s.2 6 2) 0))) ∧ x9 = many (fun k => hm (nx (s.2 6) (s.2 7)) (drwI a1 (s.2 6 2) k) = hm (nx (s.2 6) (s.2 7)) (drwI a1 (s.2 6 2) 0)) x10.toNat) (c_1 : ¬ x2 ≤ x10) (o_4 : (s.2 6 2) ≠ 0) (c_5 : ¬ x8 = (-1)) (o_6 : (0 ≤ (i32 (i64 (Int.tmod (i64 (Int.tdiv (i64 (Int.tmod (i64 ((i64 (1103515245 * x4)) + 12345)) 2147483648)) 65536)) (s.2 6 2)))) ∧ (i32 (i64 (Int.tmod (i64 (Int.tdiv (i64 (Int.tmod (i64 ((i64 (1103515245 * x4)) + 12345)) 2147483648)) 65536)) (s.2 6 2)))) < 10000)) (o_7 : (0 ≤ (f15 (i32 (i64 (Int.tmod (i64 (Int.tdiv (i64 (Int.tmod (i64 ((i64 (1103515245 * x4)) + 12345)) 2147483648)) 65536)) (s.2 6 2))))) ∧ (f15 (i32 (i64 (Int.tmod (i64 (Int.tdiv (i64 (Int.tmod (i64 ((i64 (1103515245 * x4)) + 12345)) 2147483648)) 65536)) (s.2 6 2))))) < 10000)) (c_8 : (f17 (f15 (i32 (i64 (Int.tmod (i64 (Int.tdiv (i64 (Int.tmod (i64 ((i64 (1103515245 * x4)) + 12345)) 2147483648)) 65536)) (s.2 6 2)))))) = 0) (c_12 : ¬ (f14 (i32 (i64 (Int.tmod (i64 (Int.tdiv (i64 (Int.tmod (i64 ((i64 (1103515245 * x4)) + 12345)) 2147483648)) 65536)) (s.2 6 2))))) ≤ x7) (c_14 : ¬ (f15 (i32 (i64 (Int.tmod (i64 (Int.tdiv (i64 (Int.tmod (i64 ((i64 (1103515245 * x4)) + 12345)) 2147483648)) 65536)) (s.2 6 2))))) = x8) : lex3 0 0 ((a2 - (i32 (x10 + 1))).toNat) 0 0 ((a2 - x10).toNat) := by
  obtain ⟨ht, ha, hl⟩ := hp
  have hN := tOK_N ht
  have hg := nx_rng (s.2 6) (s.2 7)
  (try simp only [bI_0, bI_n, Classical.not_not] at *)
  (try have hq := ‹GO (s.2 6) (s.2 7) _ _ _ _›)
  (try have hq := hI.2.1)
  (try have hx := GO_at hq (x := a1) (by omega) (by omega))
  (try have hN2 : 0 < s.2 6 2 := lOK_N ht hl (by omega))
  (try have hdb := drwI_b (sd := a1) (k := x10) hN2)
  (try have hd1 := drw_s (sd := a1) (by omega) (by omega) (by omega) hI.2.2.2.2.1)
  (try have hdi := drw_i (sd := a1) (N := s.2 6 2) (k := x10) (by omega) (by omega) hN2 (by omega) rfl)
  (try simp only [hd1, hdi] at *)
  (try have hy := GO_at hq hdb.1 hdb.2)
  (try (have y1 := hy.2.1.1; have y2 := hy.1.2.1; have y3 := hy.2.1.2; have y4 := hy.1.2.2))
  (try (clear hy; simp only [y1, y2] at *))
  (try have hs := sumI_s (newK (fun k => hm (nx (s.2 6) (s.2 7)) (drwI a1 (s.2 6 2) k))) (k := x10) (by omega))
  (try have hsb := sumI_b (f := newK (fun k => hm (nx (s.2 6) (s.2 7)) (drwI a1 (s.2 6 2) k))) x10.toNat (fun i _ _ => newK_01 _ _))
  (try have hn : (f17 (hm (nx (s.2 6) (s.2 7)) (drwI a1 (s.2 6 2) x10)) = 0 → newK (fun k => hm (nx (s.2 6) (s.2 7)) (drwI a1 (s.2 6 2) k)) x10 = 1) ∧ (¬ f17 (hm (nx (s.2 6) (s.2 7)) (drwI a1 (s.2 6 2) x10)) = 0 → newK (fun k => hm (nx (s.2 6) (s.2 7)) (drwI a1 (s.2 6 2) k)) x10 = 0) := MT_new hI.2.2.2.2.2.1 y3)
  (try have hm1 : maxI 0 (fun k => tl (nx (s.2 6) (s.2 7)) (drwI a1 (s.2 6 2) k)) x10.toNat < tl (nx (s.2 6) (s.2 7)) (drwI a1 (s.2 6 2) x10) → maxI 0 (fun k => tl (nx (s.2 6) (s.2 7)) (drwI a1 (s.2 6 2) k)) (x10 + 1).toNat = tl (nx (s.2 6) (s.2 7)) (drwI a1 (s.2 6 2) x10) := max_hit (by omega))
  (try have hm2 : ¬ maxI 0 (fun k => tl (nx (s.2 6) (s.2 7)) (drwI a1 (s.2 6 2) k)) x10.toNat < tl (nx (s.2 6) (s.2 7)) (drwI a1 (s.2 6 2) x10) → maxI 0 (fun k => tl (nx (s.2 6) (s.2 7)) (drwI a1 (s.2 6 2) k)) (x10 + 1).toNat = maxI 0 (fun k => tl (nx (s.2 6) (s.2 7)) (drwI a1 (s.2 6 2) k)) x10.toNat := max_not (by omega))
  (try have hb := many_b (fun k => hm (nx (s.2 6) (s.2 7)) (drwI a1 (s.2 6 2) k) = hm (nx (s.2 6) (s.2 7)) (drwI a1 (s.2 6 2) 0)) x10.toNat)
  (try have hS1 : hm (nx (s.2 6) (s.2 7)) (drwI a1 (s.2 6 2) x10) = hm (nx (s.2 6) (s.2 7)) (drwI a1 (s.2 6 2) 0) → many (fun k => hm (nx (s.2 6) (s.2 7)) (drwI a1 (s.2 6 2) k) = hm (nx (s.2 6) (s.2 7)) (drwI a1 (s.2 6 2) 0)) (x10 + 1).toNat = many (fun k => hm (nx (s.2 6) (s.2 7)) (drwI a1 (s.2 6 2) k) = hm (nx (s.2 6) (s.2 7)) (drwI a1 (s.2 6 2) 0)) x10.toNat + 1 := fun h => many_t (by omega) h)
  (try have hS2 : ¬ hm (nx (s.2 6) (s.2 7)) (drwI a1 (s.2 6 2) x10) = hm (nx (s.2 6) (s.2 7)) (drwI a1 (s.2 6 2) 0) → many (fun k => hm (nx (s.2 6) (s.2 7)) (drwI a1 (s.2 6 2) k) = hm (nx (s.2 6) (s.2 7)) (drwI a1 (s.2 6 2) 0)) (x10 + 1).toNat = many (fun k => hm (nx (s.2 6) (s.2 7)) (drwI a1 (s.2 6 2) k) = hm (nx (s.2 6) (s.2 7)) (drwI a1 (s.2 6 2) 0)) x10.toNat := fun h => many_f (by omega) h)
  (try have hz : x10 = 0 → hm (nx (s.2 6) (s.2 7)) (drwI a1 (s.2 6 2) x10) = hm (nx (s.2 6) (s.2 7)) (drwI a1 (s.2 6 2) 0) := fun h => by rw [h])
  (try have h00 := (hm_b hg (drwI_b (sd := a1) (k := 0) hN2).1 (drwI_b (sd := a1) (k := 0) hN2).2).1)
  (try have hzz := hI.2.2.2.2.2.2.2.2.1)
  (try unfold lex3)
  (try simp only [bI_0, bI_n, Classical.not_not] at *)
  (try simp (disch := omega) only [i32_id] at *)
  first | done | omega | ((repeat' (with_reducible apply And.intro)) <;> first | assumption | rfl | omega | (exact hI.1) | (exact hI.2.1) | (exact hq) | (unfold rEvening; rw [if_neg (by omega)]) | (exact hI.2.2.1.1) | (exact MT_0 (fun z a b => hI.2.2.2.2 z a (by omega))) | (exact Or.inl ⟨rfl, rfl⟩) | (intro z h0 h1; omega) | (exact upto_s (p := fun z v => v = 0) hI.2.2.2.2 rfl) | (exact MT_s hI.2.2.2.2.2.1 (by omega)) | (unfold rEvening; rw [if_pos (by omega), if_pos (by omega), hI.2.2.2.2.2.2.1, show x10 = a2 by omega]) | (unfold rEvening; rw [if_pos (by omega), if_neg (by omega), if_pos (by omega), hI.2.2.2.2.2.2.2.1, show x10 = a2 by omega]) | (unfold rEvening; rw [if_pos (by omega), if_neg (by omega), if_neg (by omega), hI.2.2.2.2.2.2.2.2.2, show x10 = a2 by omega]) | grind [upI])
theorem vX3_evening_29 (s : MS) (a1 : Int) (a2 : Int) (a3 : Int) (hp : tOK (s.2 6) ∧ aOK (s.2 6) (s.2 7) ∧ lOK ((s.2 5) 0) (s.2 6)) (x2 : Int) (x3 : Int) (x4 : Int) (x6 : Int) (x7 : Int) (x8 : Int) (x9 : Int) (x10 : Int) (f11 : Int → Int) (f12 : Int → Int) (f13 : Int → Int) (f14 : Int → Int) (f15 : Int → Int) (f16 : Int → Int) (f17 : Int → Int) (f18 : Int → Int) (f19 : Int → Int) (k0 : Int) (k25 : Int) (k33 : Int) (k34 : Int) (hI : k0 = 0 ∧ GO (s.2 6) (s.2 7) f13 f14 f15 f16 ∧ (x2 = a2 ∧ x3 = a3 ∧ 0 < s.2 5 0 ∧ 0 ≤ a1 ∧ a1 ≤ 2000000000 ∧ 1 ≤ a2 ∧ a2 ≤ 100 ∧ 0 ≤ a3 ∧ a3 ≤ 2) ∧ (0 ≤ x10 ∧ x10 ≤ a2) ∧ x4 = drw a1 x10.toNat ∧ MT (fun k => hm (nx (s.2 6) (s.2 7)) (drwI a1 (s.2 6 2) k)) f17 (s.2 6 2) x10 ∧ x6 = sumI (newK (fun k => hm (nx (s.2 6) (s.2 7)) (drwI a1 (s.2 6 2) k))) x10.toNat ∧ x7 = maxI 0 (fun k => tl (nx (s.2 6) (s.2 7)) (drwI a1 (s.2 6 2) k)) x10.toNat ∧ ((x10 = 0 ∧ x8 = -1) ∨ (0 < x10 ∧ x8 = hm (nx (s.2 6) (s.2 7)) (drwI a1 (s.2 6 2) 0))) ∧ x9 = many (fun k => hm (nx (s.2 6) (s.2 7)) (drwI a1 (s.2 6 2) k) = hm (nx (s.2 6) (s.2 7)) (drwI a1 (s.2 6 2) 0)) x10.toNat) (c_1 : ¬ x2 ≤ x10) (o_4 : (s.2 6 2) ≠ 0) (c_5 : ¬ x8 = (-1)) (o_6 : (0 ≤ (i32 (i64 (Int.tmod (i64 (Int.tdiv (i64 (Int.tmod (i64 ((i64 (1103515245 * x4)) + 12345)) 2147483648)) 65536)) (s.2 6 2)))) ∧ (i32 (i64 (Int.tmod (i64 (Int.tdiv (i64 (Int.tmod (i64 ((i64 (1103515245 * x4)) + 12345)) 2147483648)) 65536)) (s.2 6 2)))) < 10000)) (o_7 : (0 ≤ (f15 (i32 (i64 (Int.tmod (i64 (Int.tdiv (i64 (Int.tmod (i64 ((i64 (1103515245 * x4)) + 12345)) 2147483648)) 65536)) (s.2 6 2))))) ∧ (f15 (i32 (i64 (Int.tmod (i64 (Int.tdiv (i64 (Int.tmod (i64 ((i64 (1103515245 * x4)) + 12345)) 2147483648)) 65536)) (s.2 6 2))))) < 10000)) (c_8 : (f17 (f15 (i32 (i64 (Int.tmod (i64 (Int.tdiv (i64 (Int.tmod (i64 ((i64 (1103515245 * x4)) + 12345)) 2147483648)) 65536)) (s.2 6 2)))))) = 0) (c_12 : ¬ (f14 (i32 (i64 (Int.tmod (i64 (Int.tdiv (i64 (Int.tmod (i64 ((i64 (1103515245 * x4)) + 12345)) 2147483648)) 65536)) (s.2 6 2))))) ≤ x7) (c_14 : (f15 (i32 (i64 (Int.tmod (i64 (Int.tdiv (i64 (Int.tmod (i64 ((i64 (1103515245 * x4)) + 12345)) 2147483648)) 65536)) (s.2 6 2))))) = x8) : k0 = 0 ∧ GO (s.2 6) (s.2 7) f13 f14 f15 f16 ∧ (x2 = a2 ∧ x3 = a3 ∧ 0 < s.2 5 0 ∧ 0 ≤ a1 ∧ a1 ≤ 2000000000 ∧ 1 ≤ a2 ∧ a2 ≤ 100 ∧ 0 ≤ a3 ∧ a3 ≤ 2) ∧ (0 ≤ (i32 (x10 + 1)) ∧ (i32 (x10 + 1)) ≤ a2) ∧ (i64 (Int.tmod (i64 ((i64 (1103515245 * x4)) + 12345)) 2147483648)) = drw a1 (i32 (x10 + 1)).toNat ∧ MT (fun k => hm (nx (s.2 6) (s.2 7)) (drwI a1 (s.2 6 2) k)) (upI f17 (f15 (i32 (i64 (Int.tmod (i64 (Int.tdiv (i64 (Int.tmod (i64 ((i64 (1103515245 * x4)) + 12345)) 2147483648)) 65536)) (s.2 6 2))))) 1) (s.2 6 2) (i32 (x10 + 1)) ∧ (i32 (x6 + 1)) = sumI (newK (fun k => hm (nx (s.2 6) (s.2 7)) (drwI a1 (s.2 6 2) k))) (i32 (x10 + 1)).toNat ∧ (f14 (i32 (i64 (Int.tmod (i64 (Int.tdiv (i64 (Int.tmod (i64 ((i64 (1103515245 * x4)) + 12345)) 2147483648)) 65536)) (s.2 6 2))))) = maxI 0 (fun k => tl (nx (s.2 6) (s.2 7)) (drwI a1 (s.2 6 2) k)) (i32 (x10 + 1)).toNat ∧ (((i32 (x10 + 1)) = 0 ∧ x8 = -1) ∨ (0 < (i32 (x10 + 1)) ∧ x8 = hm (nx (s.2 6) (s.2 7)) (drwI a1 (s.2 6 2) 0))) ∧ (i32 (x9 + 1)) = many (fun k => hm (nx (s.2 6) (s.2 7)) (drwI a1 (s.2 6 2) k) = hm (nx (s.2 6) (s.2 7)) (drwI a1 (s.2 6 2) 0)) (i32 (x10 + 1)).toNat := by
  obtain ⟨ht, ha, hl⟩ := hp
  have hN := tOK_N ht
  have hg := nx_rng (s.2 6) (s.2 7)
  (try simp only [bI_0, bI_n, Classical.not_not] at *)
  (try have hq := ‹GO (s.2 6) (s.2 7) _ _ _ _›)
  (try have hq := hI.2.1)
  (try have hx := GO_at hq (x := a1) (by omega) (by omega))
  (try have hN2 : 0 < s.2 6 2 := lOK_N ht hl (by omega))
  (try have hdb := drwI_b (sd := a1) (k := x10) hN2)
  (try have hd1 := drw_s (sd := a1) (by omega) (by omega) (by omega) hI.2.2.2.2.1)
  (try have hdi := drw_i (sd := a1) (N := s.2 6 2) (k := x10) (by omega) (by omega) hN2 (by omega) rfl)
  (try simp only [hd1, hdi] at *)
  (try have hy := GO_at hq hdb.1 hdb.2)
  (try (have y1 := hy.2.1.1; have y2 := hy.1.2.1; have y3 := hy.2.1.2; have y4 := hy.1.2.2))
  (try (clear hy; simp only [y1, y2] at *))
  (try have hs := sumI_s (newK (fun k => hm (nx (s.2 6) (s.2 7)) (drwI a1 (s.2 6 2) k))) (k := x10) (by omega))
  (try have hsb := sumI_b (f := newK (fun k => hm (nx (s.2 6) (s.2 7)) (drwI a1 (s.2 6 2) k))) x10.toNat (fun i _ _ => newK_01 _ _))
  (try have hn : (f17 (hm (nx (s.2 6) (s.2 7)) (drwI a1 (s.2 6 2) x10)) = 0 → newK (fun k => hm (nx (s.2 6) (s.2 7)) (drwI a1 (s.2 6 2) k)) x10 = 1) ∧ (¬ f17 (hm (nx (s.2 6) (s.2 7)) (drwI a1 (s.2 6 2) x10)) = 0 → newK (fun k => hm (nx (s.2 6) (s.2 7)) (drwI a1 (s.2 6 2) k)) x10 = 0) := MT_new hI.2.2.2.2.2.1 y3)
  (try have hm1 : maxI 0 (fun k => tl (nx (s.2 6) (s.2 7)) (drwI a1 (s.2 6 2) k)) x10.toNat < tl (nx (s.2 6) (s.2 7)) (drwI a1 (s.2 6 2) x10) → maxI 0 (fun k => tl (nx (s.2 6) (s.2 7)) (drwI a1 (s.2 6 2) k)) (x10 + 1).toNat = tl (nx (s.2 6) (s.2 7)) (drwI a1 (s.2 6 2) x10) := max_hit (by omega))
  (try have hm2 : ¬ maxI 0 (fun k => tl (nx (s.2 6) (s.2 7)) (drwI a1 (s.2 6 2) k)) x10.toNat < tl (nx (s.2 6) (s.2 7)) (drwI a1 (s.2 6 2) x10) → maxI 0 (fun k => tl (nx (s.2 6) (s.2 7)) (drwI a1 (s.2 6 2) k)) (x10 + 1).toNat = maxI 0 (fun k => tl (nx (s.2 6) (s.2 7)) (drwI a1 (s.2 6 2) k)) x10.toNat := max_not (by omega))
  (try have hb := many_b (fun k => hm (nx (s.2 6) (s.2 7)) (drwI a1 (s.2 6 2) k) = hm (nx (s.2 6) (s.2 7)) (drwI a1 (s.2 6 2) 0)) x10.toNat)
  (try have hS1 : hm (nx (s.2 6) (s.2 7)) (drwI a1 (s.2 6 2) x10) = hm (nx (s.2 6) (s.2 7)) (drwI a1 (s.2 6 2) 0) → many (fun k => hm (nx (s.2 6) (s.2 7)) (drwI a1 (s.2 6 2) k) = hm (nx (s.2 6) (s.2 7)) (drwI a1 (s.2 6 2) 0)) (x10 + 1).toNat = many (fun k => hm (nx (s.2 6) (s.2 7)) (drwI a1 (s.2 6 2) k) = hm (nx (s.2 6) (s.2 7)) (drwI a1 (s.2 6 2) 0)) x10.toNat + 1 := fun h => many_t (by omega) h)
  (try have hS2 : ¬ hm (nx (s.2 6) (s.2 7)) (drwI a1 (s.2 6 2) x10) = hm (nx (s.2 6) (s.2 7)) (drwI a1 (s.2 6 2) 0) → many (fun k => hm (nx (s.2 6) (s.2 7)) (drwI a1 (s.2 6 2) k) = hm (nx (s.2 6) (s.2 7)) (drwI a1 (s.2 6 2) 0)) (x10 + 1).toNat = many (fun k => hm (nx (s.2 6) (s.2 7)) (drwI a1 (s.2 6 2) k) = hm (nx (s.2 6) (s.2 7)) (drwI a1 (s.2 6 2) 0)) x10.toNat := fun h => many_f (by omega) h)
  (try have hz : x10 = 0 → hm (nx (s.2 6) (s.2 7)) (drwI a1 (s.2 6 2) x10) = hm (nx (s.2 6) (s.2 7)) (drwI a1 (s.2 6 2) 0) := fun h => by rw [h])
  (try have h00 := (hm_b hg (drwI_b (sd := a1) (k := 0) hN2).1 (drwI_b (sd := a1) (k := 0) hN2).2).1)
  (try have hzz := hI.2.2.2.2.2.2.2.2.1)
  (try unfold lex3)
  (try simp only [bI_0, bI_n, Classical.not_not] at *)
  (try simp (disch := omega) only [i32_id] at *)
  first | done | omega | ((repeat' (with_reducible apply And.intro)) <;> first | assumption | rfl | omega | (exact hI.1) | (exact hI.2.1) | (exact hq) | (unfold rEvening; rw [if_neg (by omega)]) | (exact hI.2.2.1.1) | (exact MT_0 (fun z a b => hI.2.2.2.2 z a (by omega))) | (exact Or.inl ⟨rfl, rfl⟩) | (intro z h0 h1; omega) | (exact upto_s (p := fun z v => v = 0) hI.2.2.2.2 rfl) | (exact MT_s hI.2.2.2.2.2.1 (by omega)) | (unfold rEvening; rw [if_pos (by omega), if_pos (by omega), hI.2.2.2.2.2.2.1, show x10 = a2 by omega]) | (unfold rEvening; rw [if_pos (by omega), if_neg (by omega), if_pos (by omega), hI.2.2.2.2.2.2.2.1, show x10 = a2 by omega]) | (unfold rEvening; rw [if_pos (by omega), if_neg (by omega), if_neg (by omega), hI.2.2.2.2.2.2.2.2.2, show x10 = a2 by omega]) | grind [upI])
theorem vX3_evening_30 (s : MS) (a1 : Int) (a2 : Int) (a3 : Int) (hp : tOK (s.2 6) ∧ aOK (s.2 6) (s.2 7) ∧ lOK ((s.2 5) 0) (s.2 6)) (x2 : Int) (x3 : Int) (x4 : Int) (x6 : Int) (x7 : Int) (x8 : Int) (x9 : Int) (x10 : Int) (f11 : Int → Int) (f12 : Int → Int) (f13 : Int → Int) (f14 : Int → Int) (f15 : Int → Int) (f16 : Int → Int) (f17 : Int → Int) (f18 : Int → Int) (f19 : Int → Int) (k0 : Int) (k25 : Int) (k33 : Int) (k34 : Int) (hI : k0 = 0 ∧ GO (s.2 6) (s.2 7) f13 f14 f15 f16 ∧ (x2 = a2 ∧ x3 = a3 ∧ 0 < s.2 5 0 ∧ 0 ≤ a1 ∧ a1 ≤ 2000000000 ∧ 1 ≤ a2 ∧ a2 ≤ 100 ∧ 0 ≤ a3 ∧ a3 ≤ 2) ∧ (0 ≤ x10 ∧ x10 ≤ a2) ∧ x4 = drw a1 x10.toNat ∧ MT (fun k => hm (nx (s.2 6) (s.2 7)) (drwI a1 (s.2 6 2) k)) f17 (s.2 6 2) x10 ∧ x6 = sumI (newK (fun k => hm (nx (s.2 6) (s.2 7)) (drwI a1 (s.2 6 2) k))) x10.toNat ∧ x7 = maxI 0 (fun k => tl (nx (s.2 6) (s.2 7)) (drwI a1 (s.2 6 2) k)) x10.toNat ∧ ((x10 = 0 ∧ x8 = -1) ∨ (0 < x10 ∧ x8 = hm (nx (s.2 6) (s.2 7)) (drwI a1 (s.2 6 2) 0))) ∧ x9 = many (fun k => hm (nx (s.2 6) (s.2 7)) (drwI a1 (s.2 6 2) k) = hm (nx (s.2 6) (s.2 7)) (drwI a1 (s.2 6 2) 0)) x10.toNat) (c_1 : ¬ x2 ≤ x10) (o_4 : (s.2 6 2) ≠ 0) (c_5 : ¬ x8 = (-1)) (o_6 : (0 ≤ (i32 (i64 (Int.tmod (i64 (Int.tdiv (i64 (Int.tmod (i64 ((i64 (1103515245 * x4)) + 12345)) 2147483648)) 65536)) (s.2 6 2)))) ∧ (i32 (i64 (Int.tmod (i64 (Int.tdiv (i64 (Int.tmod (i64 ((i64 (1103515245 * x4)) + 12345)) 2147483648)) 65536)) (s.2 6 2)))) < 10000)) (o_7 : (0 ≤ (f15 (i32 (i64 (Int.tmod (i64 (Int.tdiv (i64 (Int.tmod (i64 ((i64 (1103515245 * x4)) + 12345)) 2147483648)) 65536)) (s.2 6 2))))) ∧ (f15 (i32 (i64 (Int.tmod (i64 (Int.tdiv (i64 (Int.tmod (i64 ((i64 (1103515245 * x4)) + 12345)) 2147483648)) 65536)) (s.2 6 2))))) < 10000)) (c_8 : (f17 (f15 (i32 (i64 (Int.tmod (i64 (Int.tdiv (i64 (Int.tmod (i64 ((i64 (1103515245 * x4)) + 12345)) 2147483648)) 65536)) (s.2 6 2)))))) = 0) (c_12 : ¬ (f14 (i32 (i64 (Int.tmod (i64 (Int.tdiv (i64 (Int.tmod (i64 ((i64 (1103515245 * x4)) + 12345)) 2147483648)) 65536)) (s.2 6 2))))) ≤ x7) (c_14 : (f15 (i32 (i64 (Int.tmod (i64 (Int.tdiv (i64 (Int.tmod (i64 ((i64 (1103515245 * x4)) + 12345)) 2147483648)) 65536)) (s.2 6 2))))) = x8) : lex3 0 0 ((a2 - (i32 (x10 + 1))).toNat) 0 0 ((a2 - x10).toNat) := by
  obtain ⟨ht, ha, hl⟩ := hp
  have hN := tOK_N ht
  have hg := nx_rng (s.2 6) (s.2 7)
  (try simp only [bI_0, bI_n, Classical.not_not] at *)
  (try have hq := ‹GO (s.2 6) (s.2 7) _ _ _ _›)
  (try have hq := hI.2.1)
  (try have hx := GO_at hq (x := a1) (by omega) (by omega))
  (try have hN2 : 0 < s.2 6 2 := lOK_N ht hl (by omega))
  (try have hdb := drwI_b (sd := a1) (k := x10) hN2)
  (try have hd1 := drw_s (sd := a1) (by omega) (by omega) (by omega) hI.2.2.2.2.1)
  (try have hdi := drw_i (sd := a1) (N := s.2 6 2) (k := x10) (by omega) (by omega) hN2 (by omega) rfl)
  (try simp only [hd1, hdi] at *)
  (try have hy := GO_at hq hdb.1 hdb.2)
  (try (have y1 := hy.2.1.1; have y2 := hy.1.2.1; have y3 := hy.2.1.2; have y4 := hy.1.2.2))
  (try (clear hy; simp only [y1, y2] at *))
  (try have hs := sumI_s (newK (fun k => hm (nx (s.2 6) (s.2 7)) (drwI a1 (s.2 6 2) k))) (k := x10) (by omega))
  (try have hsb := sumI_b (f := newK (fun k => hm (nx (s.2 6) (s.2 7)) (drwI a1 (s.2 6 2) k))) x10.toNat (fun i _ _ => newK_01 _ _))
  (try have hn : (f17 (hm (nx (s.2 6) (s.2 7)) (drwI a1 (s.2 6 2) x10)) = 0 → newK (fun k => hm (nx (s.2 6) (s.2 7)) (drwI a1 (s.2 6 2) k)) x10 = 1) ∧ (¬ f17 (hm (nx (s.2 6) (s.2 7)) (drwI a1 (s.2 6 2) x10)) = 0 → newK (fun k => hm (nx (s.2 6) (s.2 7)) (drwI a1 (s.2 6 2) k)) x10 = 0) := MT_new hI.2.2.2.2.2.1 y3)
  (try have hm1 : maxI 0 (fun k => tl (nx (s.2 6) (s.2 7)) (drwI a1 (s.2 6 2) k)) x10.toNat < tl (nx (s.2 6) (s.2 7)) (drwI a1 (s.2 6 2) x10) → maxI 0 (fun k => tl (nx (s.2 6) (s.2 7)) (drwI a1 (s.2 6 2) k)) (x10 + 1).toNat = tl (nx (s.2 6) (s.2 7)) (drwI a1 (s.2 6 2) x10) := max_hit (by omega))
  (try have hm2 : ¬ maxI 0 (fun k => tl (nx (s.2 6) (s.2 7)) (drwI a1 (s.2 6 2) k)) x10.toNat < tl (nx (s.2 6) (s.2 7)) (drwI a1 (s.2 6 2) x10) → maxI 0 (fun k => tl (nx (s.2 6) (s.2 7)) (drwI a1 (s.2 6 2) k)) (x10 + 1).toNat = maxI 0 (fun k => tl (nx (s.2 6) (s.2 7)) (drwI a1 (s.2 6 2) k)) x10.toNat := max_not (by omega))
  (try have hb := many_b (fun k => hm (nx (s.2 6) (s.2 7)) (drwI a1 (s.2 6 2) k) = hm (nx (s.2 6) (s.2 7)) (drwI a1 (s.2 6 2) 0)) x10.toNat)
  (try have hS1 : hm (nx (s.2 6) (s.2 7)) (drwI a1 (s.2 6 2) x10) = hm (nx (s.2 6) (s.2 7)) (drwI a1 (s.2 6 2) 0) → many (fun k => hm (nx (s.2 6) (s.2 7)) (drwI a1 (s.2 6 2) k) = hm (nx (s.2 6) (s.2 7)) (drwI a1 (s.2 6 2) 0)) (x10 + 1).toNat = many (fun k => hm (nx (s.2 6) (s.2 7)) (drwI a1 (s.2 6 2) k) = hm (nx (s.2 6) (s.2 7)) (drwI a1 (s.2 6 2) 0)) x10.toNat + 1 := fun h => many_t (by omega) h)
  (try have hS2 : ¬ hm (nx (s.2 6) (s.2 7)) (drwI a1 (s.2 6 2) x10) = hm (nx (s.2 6) (s.2 7)) (drwI a1 (s.2 6 2) 0) → many (fun k => hm (nx (s.2 6) (s.2 7)) (drwI a1 (s.2 6 2) k) = hm (nx (s.2 6) (s.2 7)) (drwI a1 (s.2 6 2) 0)) (x10 + 1).toNat = many (fun k => hm (nx (s.2 6) (s.2 7)) (drwI a1 (s.2 6 2) k) = hm (nx (s.2 6) (s.2 7)) (drwI a1 (s.2 6 2) 0)) x10.toNat := fun h => many_f (by omega) h)
  (try have hz : x10 = 0 → hm (nx (s.2 6) (s.2 7)) (drwI a1 (s.2 6 2) x10) = hm (nx (s.2 6) (s.2 7)) (drwI a1 (s.2 6 2) 0) := fun h => by rw [h])
  (try have h00 := (hm_b hg (drwI_b (sd := a1) (k := 0) hN2).1 (drwI_b (sd := a1) (k := 0) hN2).2).1)
  (try have hzz := hI.2.2.2.2.2.2.2.2.1)
  (try unfold lex3)
  (try simp only [bI_0, bI_n, Classical.not_not] at *)
  (try simp (disch := omega) only [i32_id] at *)
  first | done | omega | ((repeat' (with_reducible apply And.intro)) <;> first | assumption | rfl | omega | (exact hI.1) | (exact hI.2.1) | (exact hq) | (unfold rEvening; rw [if_neg (by omega)]) | (exact hI.2.2.1.1) | (exact MT_0 (fun z a b => hI.2.2.2.2 z a (by omega))) | (exact Or.inl ⟨rfl, rfl⟩) | (intro z h0 h1; omega) | (exact upto_s (p := fun z v => v = 0) hI.2.2.2.2 rfl) | (exact MT_s hI.2.2.2.2.2.1 (by omega)) | (unfold rEvening; rw [if_pos (by omega), if_pos (by omega), hI.2.2.2.2.2.2.1, show x10 = a2 by omega]) | (unfold rEvening; rw [if_pos (by omega), if_neg (by omega), if_pos (by omega), hI.2.2.2.2.2.2.2.1, show x10 = a2 by omega]) | (unfold rEvening; rw [if_pos (by omega), if_neg (by omega), if_neg (by omega), hI.2.2.2.2.2.2.2.2.2, show x10 = a2 by omega]) | grind [upI])
theorem vX3_evening_31 (s : MS) (a1 : Int) (a2 : Int) (a3 : Int) (hp : tOK (s.2 6) ∧ aOK (s.2 6) (s.2 7) ∧ lOK ((s.2 5) 0) (s.2 6)) (x2 : Int) (x3 : Int) (x4 : Int) (x6 : Int) (x7 : Int) (x8 : Int) (x9 : Int) (x10 : Int) (f11 : Int → Int) (f12 : Int → Int) (f13 : Int → Int) (f14 : Int → Int) (f15 : Int → Int) (f16 : Int → Int) (f17 : Int → Int) (f18 : Int → Int) (f19 : Int → Int) (k0 : Int) (k25 : Int) (k33 : Int) (k34 : Int) (hI : k0 = 0 ∧ GO (s.2 6) (s.2 7) f13 f14 f15 f16 ∧ (x2 = a2 ∧ x3 = a3 ∧ 0 < s.2 5 0 ∧ 0 ≤ a1 ∧ a1 ≤ 2000000000 ∧ 1 ≤ a2 ∧ a2 ≤ 100 ∧ 0 ≤ a3 ∧ a3 ≤ 2) ∧ (0 ≤ x10 ∧ x10 ≤ a2) ∧ x4 = drw a1 x10.toNat ∧ MT (fun k => hm (nx (s.2 6) (s.2 7)) (drwI a1 (s.2 6 2) k)) f17 (s.2 6 2) x10 ∧ x6 = sumI (newK (fun k => hm (nx (s.2 6) (s.2 7)) (drwI a1 (s.2 6 2) k))) x10.toNat ∧ x7 = maxI 0 (fun k => tl (nx (s.2 6) (s.2 7)) (drwI a1 (s.2 6 2) k)) x10.toNat ∧ ((x10 = 0 ∧ x8 = -1) ∨ (0 < x10 ∧ x8 = hm (nx (s.2 6) (s.2 7)) (drwI a1 (s.2 6 2) 0))) ∧ x9 = many (fun k => hm (nx (s.2 6) (s.2 7)) (drwI a1 (s.2 6 2) k) = hm (nx (s.2 6) (s.2 7)) (drwI a1 (s.2 6 2) 0)) x10.toNat) (c_1 : ¬ x2 ≤ x10) (o_4 : (s.2 6 2) ≠ 0) (c_5 : x8 = (-1)) : (0 ≤ (i32 (i64 (Int.tmod (i64 (Int.tdiv (i64 (Int.tmod (i64 ((i64 (1103515245 * x4)) + 12345)) 2147483648)) 65536)) (s.2 6 2)))) ∧ (i32 (i64 (Int.tmod (i64 (Int.tdiv (i64 (Int.tmod (i64 ((i64 (1103515245 * x4)) + 12345)) 2147483648)) 65536)) (s.2 6 2)))) < 10000) := by
  obtain ⟨ht, ha, hl⟩ := hp
  have hN := tOK_N ht
  have hg := nx_rng (s.2 6) (s.2 7)
  (try simp only [bI_0, bI_n, Classical.not_not] at *)
  (try have hq := ‹GO (s.2 6) (s.2 7) _ _ _ _›)
  (try have hq := hI.2.1)
  (try have hx := GO_at hq (x := a1) (by omega) (by omega))
  (try have hN2 : 0 < s.2 6 2 := lOK_N ht hl (by omega))
  (try have hdb := drwI_b (sd := a1) (k := x10) hN2)
  (try have hd1 := drw_s (sd := a1) (by omega) (by omega) (by omega) hI.2.2.2.2.1)
  (try have hdi := drw_i (sd := a1) (N := s.2 6 2) (k := x10) (by omega) (by omega) hN2 (by omega) rfl)
  (try simp only [hd1, hdi] at *)
  (try have hy := GO_at hq hdb.1 hdb.2)
  (try (have y1 := hy.2.1.1; have y2 := hy.1.2.1; have y3 := hy.2.1.2; have y4 := hy.1.2.2))
  (try (clear hy; simp only [y1, y2] at *))
  (try have hs := sumI_s (newK (fun k => hm (nx (s.2 6) (s.2 7)) (drwI a1 (s.2 6 2) k))) (k := x10) (by omega))
  (try have hsb := sumI_b (f := newK (fun k => hm (nx (s.2 6) (s.2 7)) (drwI a1 (s.2 6 2) k))) x10.toNat (fun i _ _ => newK_01 _ _))
  (try have hn : (f17 (hm (nx (s.2 6) (s.2 7)) (drwI a1 (s.2 6 2) x10)) = 0 → newK (fun k => hm (nx (s.2 6) (s.2 7)) (drwI a1 (s.2 6 2) k)) x10 = 1) ∧ (¬ f17 (hm (nx (s.2 6) (s.2 7)) (drwI a1 (s.2 6 2) x10)) = 0 → newK (fun k => hm (nx (s.2 6) (s.2 7)) (drwI a1 (s.2 6 2) k)) x10 = 0) := MT_new hI.2.2.2.2.2.1 y3)
  (try have hm1 : maxI 0 (fun k => tl (nx (s.2 6) (s.2 7)) (drwI a1 (s.2 6 2) k)) x10.toNat < tl (nx (s.2 6) (s.2 7)) (drwI a1 (s.2 6 2) x10) → maxI 0 (fun k => tl (nx (s.2 6) (s.2 7)) (drwI a1 (s.2 6 2) k)) (x10 + 1).toNat = tl (nx (s.2 6) (s.2 7)) (drwI a1 (s.2 6 2) x10) := max_hit (by omega))
  (try have hm2 : ¬ maxI 0 (fun k => tl (nx (s.2 6) (s.2 7)) (drwI a1 (s.2 6 2) k)) x10.toNat < tl (nx (s.2 6) (s.2 7)) (drwI a1 (s.2 6 2) x10) → maxI 0 (fun k => tl (nx (s.2 6) (s.2 7)) (drwI a1 (s.2 6 2) k)) (x10 + 1).toNat = maxI 0 (fun k => tl (nx (s.2 6) (s.2 7)) (drwI a1 (s.2 6 2) k)) x10.toNat := max_not (by omega))
  (try have hb := many_b (fun k => hm (nx (s.2 6) (s.2 7)) (drwI a1 (s.2 6 2) k) = hm (nx (s.2 6) (s.2 7)) (drwI a1 (s.2 6 2) 0)) x10.toNat)
  (try have hS1 : hm (nx (s.2 6) (s.2 7)) (drwI a1 (s.2 6 2) x10) = hm (nx (s.2 6) (s.2 7)) (drwI a1 (s.2 6 2) 0) → many (fun k => hm (nx (s.2 6) (s.2 7)) (drwI a1 (s.2 6 2) k) = hm (nx (s.2 6) (s.2 7)) (drwI a1 (s.2 6 2) 0)) (x10 + 1).toNat = many (fun k => hm (nx (s.2 6) (s.2 7)) (drwI a1 (s.2 6 2) k) = hm (nx (s.2 6) (s.2 7)) (drwI a1 (s.2 6 2) 0)) x10.toNat + 1 := fun h => many_t (by omega) h)
  (try have hS2 : ¬ hm (nx (s.2 6) (s.2 7)) (drwI a1 (s.2 6 2) x10) = hm (nx (s.2 6) (s.2 7)) (drwI a1 (s.2 6 2) 0) → many (fun k => hm (nx (s.2 6) (s.2 7)) (drwI a1 (s.2 6 2) k) = hm (nx (s.2 6) (s.2 7)) (drwI a1 (s.2 6 2) 0)) (x10 + 1).toNat = many (fun k => hm (nx (s.2 6) (s.2 7)) (drwI a1 (s.2 6 2) k) = hm (nx (s.2 6) (s.2 7)) (drwI a1 (s.2 6 2) 0)) x10.toNat := fun h => many_f (by omega) h)
  (try have hz : x10 = 0 → hm (nx (s.2 6) (s.2 7)) (drwI a1 (s.2 6 2) x10) = hm (nx (s.2 6) (s.2 7)) (drwI a1 (s.2 6 2) 0) := fun h => by rw [h])
  (try have h00 := (hm_b hg (drwI_b (sd := a1) (k := 0) hN2).1 (drwI_b (sd := a1) (k := 0) hN2).2).1)
  (try have hzz := hI.2.2.2.2.2.2.2.2.1)
  (try unfold lex3)
  (try simp only [bI_0, bI_n, Classical.not_not] at *)
  (try simp (disch := omega) only [i32_id] at *)
  first | done | omega | ((repeat' (with_reducible apply And.intro)) <;> first | assumption | rfl | omega | (exact hI.1) | (exact hI.2.1) | (exact hq) | (unfold rEvening; rw [if_neg (by omega)]) | (exact hI.2.2.1.1) | (exact MT_0 (fun z a b => hI.2.2.2.2 z a (by omega))) | (exact Or.inl ⟨rfl, rfl⟩) | (intro z h0 h1; omega) | (exact upto_s (p := fun z v => v = 0) hI.2.2.2.2 rfl) | (exact MT_s hI.2.2.2.2.2.1 (by omega)) | (unfold rEvening; rw [if_pos (by omega), if_pos (by omega), hI.2.2.2.2.2.2.1, show x10 = a2 by omega]) | (unfold rEvening; rw [if_pos (by omega), if_neg (by omega), if_pos (by omega), hI.2.2.2.2.2.2.2.1, show x10 = a2 by omega]) | (unfold rEvening; rw [if_pos (by omega), if_neg (by omega), if_neg (by omega), hI.2.2.2.2.2.2.2.2.2, show x10 = a2 by omega]) | grind [upI])
theorem vX3_evening_32 (s : MS) (a1 : Int) (a2 : Int) (a3 : Int) (hp : tOK (s.2 6) ∧ aOK (s.2 6) (s.2 7) ∧ lOK ((s.2 5) 0) (s.2 6)) (x2 : Int) (x3 : Int) (x4 : Int) (x6 : Int) (x7 : Int) (x8 : Int) (x9 : Int) (x10 : Int) (f11 : Int → Int) (f12 : Int → Int) (f13 : Int → Int) (f14 : Int → Int) (f15 : Int → Int) (f16 : Int → Int) (f17 : Int → Int) (f18 : Int → Int) (f19 : Int → Int) (k0 : Int) (k25 : Int) (k33 : Int) (k34 : Int) (hI : k0 = 0 ∧ GO (s.2 6) (s.2 7) f13 f14 f15 f16 ∧ (x2 = a2 ∧ x3 = a3 ∧ 0 < s.2 5 0 ∧ 0 ≤ a1 ∧ a1 ≤ 2000000000 ∧ 1 ≤ a2 ∧ a2 ≤ 100 ∧ 0 ≤ a3 ∧ a3 ≤ 2) ∧ (0 ≤ x10 ∧ x10 ≤ a2) ∧ x4 = drw a1 x10.toNat ∧ MT (fun k => hm (nx (s.2 6) (s.2 7)) (drwI a1 (s.2 6 2) k)) f17 (s.2 6 2) x10 ∧ x6 = sumI (newK (fun k => hm (nx (s.2 6) (s.2 7)) (drwI a1 (s.2 6 2) k))) x10.toNat ∧ x7 = maxI 0 (fun k => tl (nx (s.2 6) (s.2 7)) (drwI a1 (s.2 6 2) k)) x10.toNat ∧ ((x10 = 0 ∧ x8 = -1) ∨ (0 < x10 ∧ x8 = hm (nx (s.2 6) (s.2 7)) (drwI a1 (s.2 6 2) 0))) ∧ x9 = many (fun k => hm (nx (s.2 6) (s.2 7)) (drwI a1 (s.2 6 2) k) = hm (nx (s.2 6) (s.2 7)) (drwI a1 (s.2 6 2) 0)) x10.toNat) (c_1 : ¬ x2 ≤ x10) (o_4 : (s.2 6 2) ≠ 0) (c_5 : x8 = (-1)) (o_15 : (0 ≤ (i32 (i64 (Int.tmod (i64 (Int.tdiv (i64 (Int.tmod (i64 ((i64 (1103515245 * x4)) + 12345)) 2147483648)) 65536)) (s.2 6 2)))) ∧ (i32 (i64 (Int.tmod (i64 (Int.tdiv (i64 (Int.tmod (i64 ((i64 (1103515245 * x4)) + 12345)) 2147483648)) 65536)) (s.2 6 2)))) < 10000)) : (0 ≤ (f15 (i32 (i64 (Int.tmod (i64 (Int.tdiv (i64 (Int.tmod (i64 ((i64 (1103515245 * x4)) + 12345)) 2147483648)) 65536)) (s.2 6 2))))) ∧ (f15 (i32 (i64 (Int.tmod (i64 (Int.tdiv (i64 (Int.tmod (i64 ((i64 (1103515245 * x4)) + 12345)) 2147483648)) 65536)) (s.2 6 2))))) < 10000) := by
  obtain ⟨ht, ha, hl⟩ := hp
  have hN := tOK_N ht
  have hg := nx_rng (s.2 6) (s.2 7)
  (try simp only [bI_0, bI_n, Classical.not_not] at *)
  (try have hq := ‹GO (s.2 6) (s.2 7) _ _ _ _›)
  (try have hq := hI.2.1)
  (try have hx := GO_at hq (x := a1) (by omega) (by omega))
  (try have hN2 : 0 < s.2 6 2 := lOK_N ht hl (by omega))
  (try have hdb := drwI_b (sd := a1) (k := x10) hN2)
  (try have hd1 := drw_s (sd := a1) (by omega) (by omega) (by omega) hI.2.2.2.2.1)
  (try have hdi := drw_i (sd := a1) (N := s.2 6 2) (k := x10) (by omega) (by omega) hN2 (by omega) rfl)
  (try simp only [hd1, hdi] at *)
  (try have hy := GO_at hq hdb.1 hdb.2)
  (try (have y1 := hy.2.1.1; have y2 := hy.1.2.1; have y3 := hy.2.1.2; have y4 := hy.1.2.2))
  (try (clear hy; simp only [y1, y2] at *))
  (try have hs := sumI_s (newK (fun k => hm (nx (s.2 6) (s.2 7)) (drwI a1 (s.2 6 2) k))) (k := x10) (by omega))
  (try have hsb := sumI_b (f := newK (fun k => hm (nx (s.2 6) (s.2 7)) (drwI a1 (s.2 6 2) k))) x10.toNat (fun i _ _ => newK_01 _ _))
  (try have hn : (f17 (hm (nx (s.2 6) (s.2 7)) (drwI a1 (s.2 6 2) x10)) = 0 → newK (fun k => hm (nx (s.2 6) (s.2 7)) (drwI a1 (s.2 6 2) k)) x10 = 1) ∧ (¬ f17 (hm (nx (s.2 6) (s.2 7)) (drwI a1 (s.2 6 2) x10)) = 0 → newK (fun k => hm (nx (s.2 6) (s.2 7)) (drwI a1 (s.2 6 2) k)) x10 = 0) := MT_new hI.2.2.2.2.2.1 y3)
  (try have hm1 : maxI 0 (fun k => tl (nx (s.2 6) (s.2 7)) (drwI a1 (s.2 6 2) k)) x10.toNat < tl (nx (s.2 6) (s.2 7)) (drwI a1 (s.2 6 2) x10) → maxI 0 (fun k => tl (nx (s.2 6) (s.2 7)) (drwI a1 (s.2 6 2) k)) (x10 + 1).toNat = tl (nx (s.2 6) (s.2 7)) (drwI a1 (s.2 6 2) x10) := max_hit (by omega))
  (try have hm2 : ¬ maxI 0 (fun k => tl (nx (s.2 6) (s.2 7)) (drwI a1 (s.2 6 2) k)) x10.toNat < tl (nx (s.2 6) (s.2 7)) (drwI a1 (s.2 6 2) x10) → maxI 0 (fun k => tl (nx (s.2 6) (s.2 7)) (drwI a1 (s.2 6 2) k)) (x10 + 1).toNat = maxI 0 (fun k => tl (nx (s.2 6) (s.2 7)) (drwI a1 (s.2 6 2) k)) x10.toNat := max_not (by omega))
  (try have hb := many_b (fun k => hm (nx (s.2 6) (s.2 7)) (drwI a1 (s.2 6 2) k) = hm (nx (s.2 6) (s.2 7)) (drwI a1 (s.2 6 2) 0)) x10.toNat)
  (try have hS1 : hm (nx (s.2 6) (s.2 7)) (drwI a1 (s.2 6 2) x10) = hm (nx (s.2 6) (s.2 7)) (drwI a1 (s.2 6 2) 0) → many (fun k => hm (nx (s.2 6) (s.2 7)) (drwI a1 (s.2 6 2) k) = hm (nx (s.2 6) (s.2 7)) (drwI a1 (s.2 6 2) 0)) (x10 + 1).toNat = many (fun k => hm (nx (s.2 6) (s.2 7)) (drwI a1 (s.2 6 2) k) = hm (nx (s.2 6) (s.2 7)) (drwI a1 (s.2 6 2) 0)) x10.toNat + 1 := fun h => many_t (by omega) h)
  (try have hS2 : ¬ hm (nx (s.2 6) (s.2 7)) (drwI a1 (s.2 6 2) x10) = hm (nx (s.2 6) (s.2 7)) (drwI a1 (s.2 6 2) 0) → many (fun k => hm (nx (s.2 6) (s.2 7)) (drwI a1 (s.2 6 2) k) = hm (nx (s.2 6) (s.2 7)) (drwI a1 (s.2 6 2) 0)) (x10 + 1).toNat = many (fun k => hm (nx (s.2 6) (s.2 7)) (drwI a1 (s.2 6 2) k) = hm (nx (s.2 6) (s.2 7)) (drwI a1 (s.2 6 2) 0)) x10.toNat := fun h => many_f (by omega) h)
  (try have hz : x10 = 0 → hm (nx (s.2 6) (s.2 7)) (drwI a1 (s.2 6 2) x10) = hm (nx (s.2 6) (s.2 7)) (drwI a1 (s.2 6 2) 0) := fun h => by rw [h])
  (try have h00 := (hm_b hg (drwI_b (sd := a1) (k := 0) hN2).1 (drwI_b (sd := a1) (k := 0) hN2).2).1)
  (try have hzz := hI.2.2.2.2.2.2.2.2.1)
  (try unfold lex3)
  (try simp only [bI_0, bI_n, Classical.not_not] at *)
  (try simp (disch := omega) only [i32_id] at *)
  first | done | omega | ((repeat' (with_reducible apply And.intro)) <;> first | assumption | rfl | omega | (exact hI.1) | (exact hI.2.1) | (exact hq) | (unfold rEvening; rw [if_neg (by omega)]) | (exact hI.2.2.1.1) | (exact MT_0 (fun z a b => hI.2.2.2.2 z a (by omega))) | (exact Or.inl ⟨rfl, rfl⟩) | (intro z h0 h1; omega) | (exact upto_s (p := fun z v => v = 0) hI.2.2.2.2 rfl) | (exact MT_s hI.2.2.2.2.2.1 (by omega)) | (unfold rEvening; rw [if_pos (by omega), if_pos (by omega), hI.2.2.2.2.2.2.1, show x10 = a2 by omega]) | (unfold rEvening; rw [if_pos (by omega), if_neg (by omega), if_pos (by omega), hI.2.2.2.2.2.2.2.1, show x10 = a2 by omega]) | (unfold rEvening; rw [if_pos (by omega), if_neg (by omega), if_neg (by omega), hI.2.2.2.2.2.2.2.2.2, show x10 = a2 by omega]) | grind [upI])
theorem vX3_evening_33 (s : MS) (a1 : Int) (a2 : Int) (a3 : Int) (hp : tOK (s.2 6) ∧ aOK (s.2 6) (s.2 7) ∧ lOK ((s.2 5) 0) (s.2 6)) (x2 : Int) (x3 : Int) (x4 : Int) (x6 : Int) (x7 : Int) (x8 : Int) (x9 : Int) (x10 : Int) (f11 : Int → Int) (f12 : Int → Int) (f13 : Int → Int) (f14 : Int → Int) (f15 : Int → Int) (f16 : Int → Int) (f17 : Int → Int) (f18 : Int → Int) (f19 : Int → Int) (k0 : Int) (k25 : Int) (k33 : Int) (k34 : Int) (hI : k0 = 0 ∧ GO (s.2 6) (s.2 7) f13 f14 f15 f16 ∧ (x2 = a2 ∧ x3 = a3 ∧ 0 < s.2 5 0 ∧ 0 ≤ a1 ∧ a1 ≤ 2000000000 ∧ 1 ≤ a2 ∧ a2 ≤ 100 ∧ 0 ≤ a3 ∧ a3 ≤ 2) ∧ (0 ≤ x10 ∧ x10 ≤ a2) ∧ x4 = drw a1 x10.toNat ∧ MT (fun k => hm (nx (s.2 6) (s.2 7)) (drwI a1 (s.2 6 2) k)) f17 (s.2 6 2) x10 ∧ x6 = sumI (newK (fun k => hm (nx (s.2 6) (s.2 7)) (drwI a1 (s.2 6 2) k))) x10.toNat ∧ x7 = maxI 0 (fun k => tl (nx (s.2 6) (s.2 7)) (drwI a1 (s.2 6 2) k)) x10.toNat ∧ ((x10 = 0 ∧ x8 = -1) ∨ (0 < x10 ∧ x8 = hm (nx (s.2 6) (s.2 7)) (drwI a1 (s.2 6 2) 0))) ∧ x9 = many (fun k => hm (nx (s.2 6) (s.2 7)) (drwI a1 (s.2 6 2) k) = hm (nx (s.2 6) (s.2 7)) (drwI a1 (s.2 6 2) 0)) x10.toNat) (c_1 : ¬ x2 ≤ x10) (o_4 : (s.2 6 2) ≠ 0) (c_5 : x8 = (-1)) (o_15 : (0 ≤ (i32 (i64 (Int.tmod (i64 (Int.tdiv (i64 (Int.tmod (i64 ((i64 (1103515245 * x4)) + 12345)) 2147483648)) 65536)) (s.2 6 2)))) ∧ (i32 (i64 (Int.tmod (i64 (Int.tdiv (i64 (Int.tmod (i64 ((i64 (1103515245 * x4)) + 12345)) 2147483648)) 65536)) (s.2 6 2)))) < 10000)) (o_16 : (0 ≤ (f15 (i32 (i64 (Int.tmod (i64 (Int.tdiv (i64 (Int.tmod (i64 ((i64 (1103515245 * x4)) + 12345)) 2147483648)) 65536)) (s.2 6 2))))) ∧ (f15 (i32 (i64 (Int.tmod (i64 (Int.tdiv (i64 (Int.tmod (i64 ((i64 (1103515245 * x4)) + 12345)) 2147483648)) 65536)) (s.2 6 2))))) < 10000)) (c_17 : ¬ (f17 (f15 (i32 (i64 (Int.tmod (i64 (Int.tdiv (i64 (Int.tmod (i64 ((i64 (1103515245 * x4)) + 12345)) 2147483648)) 65536)) (s.2 6 2)))))) = 0) (c_18 : (f14 (i32 (i64 (Int.tmod (i64 (Int.tdiv (i64 (Int.tmod (i64 ((i64 (1103515245 * x4)) + 12345)) 2147483648)) 65536)) (s.2 6 2))))) ≤ x7) (c_19 : ¬ (f15 (i32 (i64 (Int.tmod (i64 (Int.tdiv (i64 (Int.tmod (i64 ((i64 (1103515245 * x4)) + 12345)) 2147483648)) 65536)) (s.2 6 2))))) = (f15 (i32 (i64 (Int.tmod (i64 (Int.tdiv (i64 (Int.tmod (i64 ((i64 (1103515245 * x4)) + 12345)) 2147483648)) 65536)) (s.2 6 2)))))) : k0 = 0 ∧ GO (s.2 6) (s.2 7) f13 f14 f15 f16 ∧ (x2 = a2 ∧ x3 = a3 ∧ 0 < s.2 5 0 ∧ 0 ≤ a1 ∧ a1 ≤ 2000000000 ∧ 1 ≤ a2 ∧ a2 ≤ 100 ∧ 0 ≤ a3 ∧ a3 ≤ 2) ∧ (0 ≤ (i32 (x10 + 1)) ∧ (i32 (x10 + 1)) ≤ a2) ∧ (i64 (Int.tmod (i64 ((i64 (1103515245 * x4)) + 12345)) 2147483648)) = drw a1 (i32 (x10 + 1)).toNat ∧ MT (fun k => hm (nx (s.2 6) (s.2 7)) (drwI a1 (s.2 6 2) k)) (upI f17 (f15 (i32 (i64 (Int.tmod (i64 (Int.tdiv (i64 (Int.tmod (i64 ((i64 (1103515245 * x4)) + 12345)) 2147483648)) 65536)) (s.2 6 2))))) 1) (s.2 6 2) (i32 (x10 + 1)) ∧ (i32 (x6 + 0)) = sumI (newK (fun k => hm (nx (s.2 6) (s.2 7)) (drwI a1 (s.2 6 2) k))) (i32 (x10 + 1)).toNat ∧ x7 = maxI 0 (fun k => tl (nx (s.2 6) (s.2 7)) (drwI a1 (s.2 6 2) k)) (i32 (x10 + 1)).toNat ∧ (((i32 (x10 + 1)) = 0 ∧ (f15 (i32 (i64 (Int.tmod (i64 (Int.tdiv (i64 (Int.tmod (i64 ((i64 (1103515245 * x4)) + 12345)) 2147483648)) 65536)) (s.2 6 2))))) = -1) ∨ (0 < (i32 (x10 + 1)) ∧ (f15 (i32 (i64 (Int.tmod (i64 (Int.tdiv (i64 (Int.tmod (i64 ((i64 (1103515245 * x4)) + 12345)) 2147483648)) 65536)) (s.2 6 2))))) = hm (nx (s.2 6) (s.2 7)) (drwI a1 (s.2 6 2) 0))) ∧ (i32 (x9 + 0)) = many (fun k => hm (nx (s.2 6) (s.2 7)) (drwI a1 (s.2 6 2) k) = hm (nx (s.2 6) (s.2 7)) (drwI a1 (s.2 6 2) 0)) (i32 (x10 + 1)).toNat := by
  obtain ⟨ht, ha, hl⟩ := hp
  have hN := tOK_N ht
  have hg := nx_rng (s.2 6) (s.2 7)
  (try simp only [bI_0, bI_n, Classical.not_not] at *)
  (try have hq := ‹GO (s.2 6) (s.2 7) _ _ _ _›)
  (try have hq := hI.2.1)
  (try have hx := GO_at hq (x := a1) (by omega) (by omega))
  (try have hN2 : 0 < s.2 6 2 := lOK_N ht hl (by omega))
  (try have hdb := drwI_b (sd := a1) (k := x10) hN2)
  (try have hd1 := drw_s (sd := a1) (by omega) (by omega) (by omega) hI.2.2.2.2.1)
  (try have hdi := drw_i (sd := a1) (N := s.2 6 2) (k := x10) (by omega) (by omega) hN2 (by omega) rfl)
  (try simp only [hd1, hdi] at *)
  (try have hy := GO_at hq hdb.1 hdb.2)
  (try (have y1 := hy.2.1.1; have y2 := hy.1.2.1; have y3 := hy.2.1.2; have y4 := hy.1.2.2))
  (try (clear hy; simp only [y1, y2] at *))
  (try have hs := sumI_s (newK (fun k => hm (nx (s.2 6) (s.2 7)) (drwI a1 (s.2 6 2) k))) (k := x10) (by omega))
  (try have hsb := sumI_b (f := newK (fun k => hm (nx (s.2 6) (s.2 7)) (drwI a1 (s.2 6 2) k))) x10.toNat (fun i _ _ => newK_01 _ _))
  (try have hn : (f17 (hm (nx (s.2 6) (s.2 7)) (drwI a1 (s.2 6 2) x10)) = 0 → newK (fun k => hm (nx (s.2 6) (s.2 7)) (drwI a1 (s.2 6 2) k)) x10 = 1) ∧ (¬ f17 (hm (nx (s.2 6) (s.2 7)) (drwI a1 (s.2 6 2) x10)) = 0 → newK (fun k => hm (nx (s.2 6) (s.2 7)) (drwI a1 (s.2 6 2) k)) x10 = 0) := MT_new hI.2.2.2.2.2.1 y3)
  (try have hm1 : maxI 0 (fun k => tl (nx (s.2 6) (s.2 7)) (drwI a1 (s.2 6 2) k)) x10.toNat < tl (nx (s.2 6) (s.2 7)) (drwI a1 (s.2 6 2) x10) → maxI 0 (fun k => tl (nx (s.2 6) (s.2 7)) (drwI a1 (s.2 6 2) k)) (x10 + 1).toNat = tl (nx (s.2 6) (s.2 7)) (drwI a1 (s.2 6 2) x10) := max_hit (by omega))
  (try have hm2 : ¬ maxI 0 (fun k => tl (nx (s.2 6) (s.2 7)) (drwI a1 (s.2 6 2) k)) x10.toNat < tl (nx (s.2 6) (s.2 7)) (drwI a1 (s.2 6 2) x10) → maxI 0 (fun k => tl (nx (s.2 6) (s.2 7)) (drwI a1 (s.2 6 2) k)) (x10 + 1).toNat = maxI 0 (fun k => tl (nx (s.2 6) (s.2 7)) (drwI a1 (s.2 6 2) k)) x10.toNat := max_not (by omega))
  (try have hb := many_b (fun k => hm (nx (s.2 6) (s.2 7)) (drwI a1 (s.2 6 2) k) = hm (nx (s.2 6) (s.2 7)) (drwI a1 (s.2 6 2) 0)) x10.toNat)
  (try have hS1 : hm (nx (s.2 6) (s.2 7)) (drwI a1 (s.2 6 2) x10) = hm (nx (s.2 6) (s.2 7)) (drwI a1 (s.2 6 2) 0) → many (fun k => hm (nx (s.2 6) (s.2 7)) (drwI a1 (s.2 6 2) k) = hm (nx (s.2 6) (s.2 7)) (drwI a1 (s.2 6 2) 0)) (x10 + 1).toNat = many (fun k => hm (nx (s.2 6) (s.2 7)) (drwI a1 (s.2 6 2) k) = hm (nx (s.2 6) (s.2 7)) (drwI a1 (s.2 6 2) 0)) x10.toNat + 1 := fun h => many_t (by omega) h)
  (try have hS2 : ¬ hm (nx (s.2 6) (s.2 7)) (drwI a1 (s.2 6 2) x10) = hm (nx (s.2 6) (s.2 7)) (drwI a1 (s.2 6 2) 0) → many (fun k => hm (nx (s.2 6) (s.2 7)) (drwI a1 (s.2 6 2) k) = hm (nx (s.2 6) (s.2 7)) (drwI a1 (s.2 6 2) 0)) (x10 + 1).toNat = many (fun k => hm (nx (s.2 6) (s.2 7)) (drwI a1 (s.2 6 2) k) = hm (nx (s.2 6) (s.2 7)) (drwI a1 (s.2 6 2) 0)) x10.toNat := fun h => many_f (by omega) h)
  (try have hz : x10 = 0 → hm (nx (s.2 6) (s.2 7)) (drwI a1 (s.2 6 2) x10) = hm (nx (s.2 6) (s.2 7)) (drwI a1 (s.2 6 2) 0) := fun h => by rw [h])
  (try have h00 := (hm_b hg (drwI_b (sd := a1) (k := 0) hN2).1 (drwI_b (sd := a1) (k := 0) hN2).2).1)
  (try have hzz := hI.2.2.2.2.2.2.2.2.1)
  (try unfold lex3)
  (try simp only [bI_0, bI_n, Classical.not_not] at *)
  (try simp (disch := omega) only [i32_id] at *)
  first | done | omega | ((repeat' (with_reducible apply And.intro)) <;> first | assumption | rfl | omega | (exact hI.1) | (exact hI.2.1) | (exact hq) | (unfold rEvening; rw [if_neg (by omega)]) | (exact hI.2.2.1.1) | (exact MT_0 (fun z a b => hI.2.2.2.2 z a (by omega))) | (exact Or.inl ⟨rfl, rfl⟩) | (intro z h0 h1; omega) | (exact upto_s (p := fun z v => v = 0) hI.2.2.2.2 rfl) | (exact MT_s hI.2.2.2.2.2.1 (by omega)) | (unfold rEvening; rw [if_pos (by omega), if_pos (by omega), hI.2.2.2.2.2.2.1, show x10 = a2 by omega]) | (unfold rEvening; rw [if_pos (by omega), if_neg (by omega), if_pos (by omega), hI.2.2.2.2.2.2.2.1, show x10 = a2 by omega]) | (unfold rEvening; rw [if_pos (by omega), if_neg (by omega), if_neg (by omega), hI.2.2.2.2.2.2.2.2.2, show x10 = a2 by omega]) | grind [upI])
theorem vX3_evening_34 (s : MS) (a1 : Int) (a2 : Int) (a3 : Int) (hp : tOK (s.2 6) ∧ aOK (s.2 6) (s.2 7) ∧ lOK ((s.2 5) 0) (s.2 6)) (x2 : Int) (x3 : Int) (x4 : Int) (x6 : Int) (x7 : Int) (x8 : Int) (x9 : Int) (x10 : Int) (f11 : Int → Int) (f12 : Int → Int) (f13 : Int → Int) (f14 : Int → Int) (f15 : Int → Int) (f16 : Int → Int) (f17 : Int → Int) (f18 : Int → Int) (f19 : Int → Int) (k0 : Int) (k25 : Int) (k33 : Int) (k34 : Int) (hI : k0 = 0 ∧ GO (s.2 6) (s.2 7) f13 f14 f15 f16 ∧ (x2 = a2 ∧ x3 = a3 ∧ 0 < s.2 5 0 ∧ 0 ≤ a1 ∧ a1 ≤ 2000000000 ∧ 1 ≤ a2 ∧ a2 ≤ 100 ∧ 0 ≤ a3 ∧ a3 ≤ 2) ∧ (0 ≤ x10 ∧ x10 ≤ a2) ∧ x4 = drw a1 x10.toNat ∧ MT (fun k => hm (nx (s.2 6) (s.2 7)) (drwI a1 (s.2 6 2) k)) f17 (s.2 6 2) x10 ∧ x6 = sumI (newK (fun k => hm (nx (s.2 6) (s.2 7)) (drwI a1 (s.2 6 2) k))) x10.toNat ∧ x7 = maxI 0 (fun k => tl (nx (s.2 6) (s.2 7)) (drwI a1 (s.2 6 2) k)) x10.toNat ∧ ((x10 = 0 ∧ x8 = -1) ∨ (0 < x10 ∧ x8 = hm (nx (s.2 6) (s.2 7)) (drwI a1 (s.2 6 2) 0))) ∧ x9 = many (fun k => hm (nx (s.2 6) (s.2 7)) (drwI a1 (s.2 6 2) k) = hm (nx (s.2 6) (s.2 7)) (drwI a1 (s.2 6 2) 0)) x10.toNat) (c_1 : ¬ x2 ≤ x10) (o_4 : (s.2 6 2) ≠ 0) (c_5 : x8 = (-1)) (o_15 : (0 ≤ (i32 (i64 (Int.tmod (i64 (Int.tdiv (i64 (Int.tmod (i64 ((i64 (1103515245 * x4)) + 12345)) 2147483648)) 65536)) (s.2 6 2)))) ∧ (i32 (i64 (Int.tmod (i64 (Int.tdiv (i64 (Int.tmod (i64 ((i64 (1103515245 * x4)) + 12345)) 2147483648)) 65536)) (s.2 6 2)))) < 10000)) (o_16 : (0 ≤ (f15 (i32 (i64 (Int.tmod (i64 (Int.tdiv (i64 (Int.tmod (i64 ((i64 (1103515245 * x4)) + 12345)) 2147483648)) 65536)) (s.2 6 2))))) ∧ (f15 (i32 (i64 (Int.tmod (i64 (Int.tdiv (i64 (Int.tmod (i64 ((i64 (1103515245 * x4)) + 12345)) 2147483648)) 65536)) (s.2 6 2))))) < 10000)) (c_17 : ¬ (f17 (f15 (i32 (i64 (Int.tmod (i64 (Int.tdiv (i64 (Int.tmod (i64 ((i64 (1103515245 * x4)) + 12345)) 2147483648)) 65536)) (s.2 6 2)))))) = 0) (c_18 : (f14 (i32 (i64 (Int.tmod (i64 (Int.tdiv (i64 (Int.tmod (i64 ((i64 (1103515245 * x4)) + 12345)) 2147483648)) 65536)) (s.2 6 2))))) ≤ x7) (c_19 : ¬ (f15 (i32 (i64 (Int.tmod (i64 (Int.tdiv (i64 (Int.tmod (i64 ((i64 (1103515245 * x4)) + 12345)) 2147483648)) 65536)) (s.2 6 2))))) = (f15 (i32 (i64 (Int.tmod (i64 (Int.tdiv (i64 (Int.tmod (i64 ((i64 (1103515245 * x4)) + 12345)) 2147483648)) 65536)) (s.2 6 2)))))) : lex3 0 0 ((a2 - (i32 (x10 + 1))).toNat) 0 0 ((a2 - x10).toNat) := by
  obtain ⟨ht, ha, hl⟩ := hp
  have hN := tOK_N ht
  have hg := nx_rng (s.2 6) (s.2 7)
  (try simp only [bI_0, bI_n, Classical.not_not] at *)
  (try have hq := ‹GO (s.2 6) (s.2 7) _ _ _ _›)
  (try have hq := hI.2.1)
  (try have hx := GO_at hq (x := a1) (by omega) (by omega))
  (try have hN2 : 0 < s.2 6 2 := lOK_N ht hl (by omega))
  (try have hdb := drwI_b (sd := a1) (k := x10) hN2)
  (try have hd1 := drw_s (sd := a1) (by omega) (by omega) (by omega) hI.2.2.2.2.1)
  (try have hdi := drw_i (sd := a1) (N := s.2 6 2) (k := x10) (by omega) (by omega) hN2 (by omega) rfl)
  (try simp only [hd1, hdi] at *)
  (try have hy := GO_at hq hdb.1 hdb.2)
  (try (have y1 := hy.2.1.1; have y2 := hy.1.2.1; have y3 := hy.2.1.2; have y4 := hy.1.2.2))
  (try (clear hy; simp only [y1, y2] at *))
  (try have hs := sumI_s (newK (fun k => hm (nx (s.2 6) (s.2 7)) (drwI a1 (s.2 6 2) k))) (k := x10) (by omega))
  (try have hsb := sumI_b (f := newK (fun k => hm (nx (s.2 6) (s.2 7)) (drwI a1 (s.2 6 2) k))) x10.toNat (fun i _ _ => newK_01 _ _))
  (try have hn : (f17 (hm (nx (s.2 6) (s.2 7)) (drwI a1 (s.2 6 2) x10)) = 0 → newK (fun k => hm (nx (s.2 6) (s.2 7)) (drwI a1 (s.2 6 2) k)) x10 = 1) ∧ (¬ f17 (hm (nx (s.2 6) (s.2 7)) (drwI a1 (s.2 6 2) x10)) = 0 → newK (fun k => hm (nx (s.2 6) (s.2 7)) (drwI a1 (s.2 6 2) k)) x10 = 0) := MT_new hI.2.2.2.2.2.1 y3)
  (try have hm1 : maxI 0 (fun k => tl (nx (s.2 6) (s.2 7)) (drwI a1 (s.2 6 2) k)) x10.toNat < tl (nx (s.2 6) (s.2 7)) (drwI a1 (s.2 6 2) x10) → maxI 0 (fun k => tl (nx (s.2 6) (s.2 7)) (drwI a1 (s.2 6 2) k)) (x10 + 1).toNat = tl (nx (s.2 6) (s.2 7)) (drwI a1 (s.2 6 2) x10) := max_hit (by omega))
  (try have hm2 : ¬ maxI 0 (fun k => tl (nx (s.2 6) (s.2 7)) (drwI a1 (s.2 6 2) k)) x10.toNat < tl (nx (s.2 6) (s.2 7)) (drwI a1 (s.2 6 2) x10) → maxI 0 (fun k => tl (nx (s.2 6) (s.2 7)) (drwI a1 (s.2 6 2) k)) (x10 + 1).toNat = maxI 0 (fun k => tl (nx (s.2 6) (s.2 7)) (drwI a1 (s.2 6 2) k)) x10.toNat := max_not (by omega))
  (try have hb := many_b (fun k => hm (nx (s.2 6) (s.2 7)) (drwI a1 (s.2 6 2) k) = hm (nx (s.2 6) (s.2 7)) (drwI a1 (s.2 6 2) 0)) x10.toNat)
  (try have hS1 : hm (nx (s.2 6) (s.2 7)) (drwI a1 (s.2 6 2) x10) = hm (nx (s.2 6) (s.2 7)) (drwI a1 (s.2 6 2) 0) → many (fun k => hm (nx (s.2 6) (s.2 7)) (drwI a1 (s.2 6 2) k) = hm (nx (s.2 6) (s.2 7)) (drwI a1 (s.2 6 2) 0)) (x10 + 1).toNat = many (fun k => hm (nx (s.2 6) (s.2 7)) (drwI a1 (s.2 6 2) k) = hm (nx (s.2 6) (s.2 7)) (drwI a1 (s.2 6 2) 0)) x10.toNat + 1 := fun h => many_t (by omega) h)
  (try have hS2 : ¬ hm (nx (s.2 6) (s.2 7)) (drwI a1 (s.2 6 2) x10) = hm (nx (s.2 6) (s.2 7)) (drwI a1 (s.2 6 2) 0) → many (fun k => hm (nx (s.2 6) (s.2 7)) (drwI a1 (s.2 6 2) k) = hm (nx (s.2 6) (s.2 7)) (drwI a1 (s.2 6 2) 0)) (x10 + 1).toNat = many (fun k => hm (nx (s.2 6) (s.2 7)) (drwI a1 (s.2 6 2) k) = hm (nx (s.2 6) (s.2 7)) (drwI a1 (s.2 6 2) 0)) x10.toNat := fun h => many_f (by omega) h)
  (try have hz : x10 = 0 → hm (nx (s.2 6) (s.2 7)) (drwI a1 (s.2 6 2) x10) = hm (nx (s.2 6) (s.2 7)) (drwI a1 (s.2 6 2) 0) := fun h => by rw [h])
  (try have h00 := (hm_b hg (drwI_b (sd := a1) (k := 0) hN2).1 (drwI_b (sd := a1) (k := 0) hN2).2).1)
  (try have hzz := hI.2.2.2.2.2.2.2.2.1)
  (try unfold lex3)
  (try simp only [bI_0, bI_n, Classical.not_not] at *)
  (try simp (disch := omega) only [i32_id] at *)
  first | done | omega | ((repeat' (with_reducible apply And.intro)) <;> first | assumption | rfl | omega | (exact hI.1) | (exact hI.2.1) | (exact hq) | (unfold rEvening; rw [if_neg (by omega)]) | (exact hI.2.2.1.1) | (exact MT_0 (fun z a b => hI.2.2.2.2 z a (by omega))) | (exact Or.inl ⟨rfl, rfl⟩) | (intro z h0 h1; omega) | (exact upto_s (p := fun z v => v = 0) hI.2.2.2.2 rfl) | (exact MT_s hI.2.2.2.2.2.1 (by omega)) | (unfold rEvening; rw [if_pos (by omega), if_pos (by omega), hI.2.2.2.2.2.2.1, show x10 = a2 by omega]) | (unfold rEvening; rw [if_pos (by omega), if_neg (by omega), if_pos (by omega), hI.2.2.2.2.2.2.2.1, show x10 = a2 by omega]) | (unfold rEvening; rw [if_pos (by omega), if_neg (by omega), if_neg (by omega), hI.2.2.2.2.2.2.2.2.2, show x10 = a2 by omega]) | grind [upI])
theorem vX3_evening_35 (s : MS) (a1 : Int) (a2 : Int) (a3 : Int) (hp : tOK (s.2 6) ∧ aOK (s.2 6) (s.2 7) ∧ lOK ((s.2 5) 0) (s.2 6)) (x2 : Int) (x3 : Int) (x4 : Int) (x6 : Int) (x7 : Int) (x8 : Int) (x9 : Int) (x10 : Int) (f11 : Int → Int) (f12 : Int → Int) (f13 : Int → Int) (f14 : Int → Int) (f15 : Int → Int) (f16 : Int → Int) (f17 : Int → Int) (f18 : Int → Int) (f19 : Int → Int) (k0 : Int) (k25 : Int) (k33 : Int) (k34 : Int) (hI : k0 = 0 ∧ GO (s.2 6) (s.2 7) f13 f14 f15 f16 ∧ (x2 = a2 ∧ x3 = a3 ∧ 0 < s.2 5 0 ∧ 0 ≤ a1 ∧ a1 ≤ 2000000000 ∧ 1 ≤ a2 ∧ a2 ≤ 100 ∧ 0 ≤ a3 ∧ a3 ≤ 2) ∧ (0 ≤ x10 ∧ x10 ≤ a2) ∧ x4 = drw a1 x10.toNat ∧ MT (fun k => hm (nx (s.2 6) (s.2 7)) (drwI a1 (s.2 6 2) k)) f17 (s.2 6 2) x10 ∧ x6 = sumI (newK (fun k => hm (nx (s.2 6) (s.2 7)) (drwI a1 (s.2 6 2) k))) x10.toNat ∧ x7 = maxI 0 (fun k => tl (nx (s.2 6) (s.2 7)) (drwI a1 (s.2 6 2) k)) x10.toNat ∧ ((x10 = 0 ∧ x8 = -1) ∨ (0 < x10 ∧ x8 = hm (nx (s.2 6) (s.2 7)) (drwI a1 (s.2 6 2) 0))) ∧ x9 = many (fun k => hm (nx (s.2 6) (s.2 7)) (drwI a1 (s.2 6 2) k) = hm (nx (s.2 6) (s.2 7)) (drwI a1 (s.2 6 2) 0)) x10.toNat) (c_1 : ¬ x2 ≤ x10) (o_4 : (s.2 6 2) ≠ 0) (c_5 : x8 = (-1)) (o_15 : (0 ≤ (i32 (i64 (Int.tmod (i64 (Int.tdiv (i64 (Int.tmod (i64 ((i64 (1103515245 * x4)) + 12345)) 2147483648)) 65536)) (s.2 6 2)))) ∧ (i32 (i64 (Int.tmod (i64 (Int.tdiv (i64 (Int.tmod (i64 ((i64 (1103515245 * x4)) + 12345)) 2147483648)) 65536)) (s.2 6 2)))) < 10000)) (o_16 : (0 ≤ (f15 (i32 (i64 (Int.tmod (i64 (Int.tdiv (i64 (Int.tmod (i64 ((i64 (1103515245 * x4)) + 12345)) 2147483648)) 65536)) (s.2 6 2))))) ∧ (f15 (i32 (i64 (Int.tmod (i64 (Int.tdiv (i64 (Int.tmod (i64 ((i64 (1103515245 * x4)) + 12345)) 2147483648)) 65536)) (s.2 6 2))))) < 10000)) (c_17 : ¬ (f17 (f15 (i32 (i64 (Int.tmod (i64 (Int.tdiv (i64 (Int.tmod (i64 ((i64 (1103515245 * x4)) + 12345)) 2147483648)) 65536)) (s.2 6 2)))))) = 0) (c_18 : (f14 (i32 (i64 (Int.tmod (i64 (Int.tdiv (i64 (Int.tmod (i64 ((i64 (1103515245 * x4)) + 12345)) 2147483648)) 65536)) (s.2 6 2))))) ≤ x7) (c_19 : (f15 (i32 (i64 (Int.tmod (i64 (Int.tdiv (i64 (Int.tmod (i64 ((i64 (1103515245 * x4)) + 12345)) 2147483648)) 65536)) (s.2 6 2))))) = (f15 (i32 (i64 (Int.tmod (i64 (Int.tdiv (i64 (Int.tmod (i64 ((i64 (1103515245 * x4)) + 12345)) 2147483648)) 65536)) (s.2 6 2)))))) : k0 = 0 ∧ GO (s.2 6) (s.2 7) f13 f14 f15 f16 ∧ (x2 = a2 ∧ x3 = a3 ∧ 0 < s.2 5 0 ∧ 0 ≤ a1 ∧ a1 ≤ 2000000000 ∧ 1 ≤ a2 ∧ a2 ≤ 100 ∧ 0 ≤ a3 ∧ a3 ≤ 2) ∧ (0 ≤ (i32 (x10 + 1)) ∧ (i32 (x10 + 1)) ≤ a2) ∧ (i64 (Int.tmod (i64 ((i64 (1103515245 * x4)) + 12345)) 2147483648)) = drw a1 (i32 (x10 + 1)).toNat ∧ MT (fun k => hm (nx (s.2 6) (s.2 7)) (drwI a1 (s.2 6 2) k)) (upI f17 (f15 (i32 (i64 (Int.tmod (i64 (Int.tdiv (i64 (Int.tmod (i64 ((i64 (1103515245 * x4)) + 12345)) 2147483648)) 65536)) (s.2 6 2))))) 1) (s.2 6 2) (i32 (x10 + 1)) ∧ (i32 (x6 + 0)) = sumI (newK (fun k => hm (nx (s.2 6) (s.2 7)) (drwI a1 (s.2 6 2) k))) (i32 (x10 + 1)).toNat ∧ x7 = maxI 0 (fun k => tl (nx (s.2 6) (s.2 7)) (drwI a1 (s.2 6 2) k)) (i32 (x10 + 1)).toNat ∧ (((i32 (x10 + 1)) = 0 ∧ (f15 (i32 (i64 (Int.tmod (i64 (Int.tdiv (i64 (Int.tmod (i64 ((i64 (1103515245 * x4)) + 12345)) 2147483648)) 65536)) (s.2 6 2))))) = -1) ∨ (0 < (i32 (x10 + 1)) ∧ (f15 (i32 (i64 (Int.tmod (i64 (Int.tdiv (i64 (Int.tmod (i64 ((i64 (1103515245 * x4)) + 12345)) 2147483648)) 65536)) (s.2 6 2))))) = hm (nx (s.2 6) (s.2 7)) (drwI a1 (s.2 6 2) 0))) ∧ (i32 (x9 + 1)) = many (fun k => hm (nx (s.2 6) (s.2 7)) (drwI a1 (s.2 6 2) k) = hm (nx (s.2 6) (s.2 7)) (drwI a1 (s.2 6 2) 0)) (i32 (x10 + 1)).toNat := by
  obtain ⟨ht, ha, hl⟩ := hp
  have hN := tOK_N ht
  have hg := nx_rng (s.2 6) (s.2 7)
  (try simp only [bI_0, bI_n, Classical.not_not] at *)
  (try have hq := ‹GO (s.2 6) (s.2 7) _ _ _ _›)
  (try have hq := hI.2.1)
  (try have hx := GO_at hq (x := a1) (by omega) (by omega))
  (try have hN2 : 0 < s.2 6 2 := lOK_N ht hl (by omega))
  (try have hdb := drwI_b (sd := a1) (k := x10) hN2)
  (try have hd1 := drw_s (sd := a1) (by omega) (by omega) (by omega) hI.2.2.2.2.1)
  (try have hdi := drw_i (sd := a1) (N := s.2 6 2) (k := x10) (by omega) (by omega) hN2 (by omega) rfl)
  (try simp only [hd1, hdi] at *)
  (try have hy := GO_at hq hdb.1 hdb.2)
  (try (have y1 := hy.2.1.1; have y2 := hy.1.2.1; have y3 := hy.2.1.2; have y4 := hy.1.2.2))
  (try (clear hy; simp only [y1, y2] at *))
  (try have hs := sumI_s (newK (fun k => hm (nx (s.2 6) (s.2 7)) (drwI a1 (s.2 6 2) k))) (k := x10) (by omega))
  (try have hsb := sumI_b (f := newK (fun k => hm (nx (s.2 6) (s.2 7)) (drwI a1 (s.2 6 2) k))) x10.toNat (fun i _ _ => newK_01 _ _))
  (try have hn : (f17 (hm (nx (s.2 6) (s.2 7)) (drwI a1 (s.2 6 2) x10)) = 0 → newK (fun k => hm (nx (s.2 6) (s.2 7)) (drwI a1 (s.2 6 2) k)) x10 = 1) ∧ (¬ f17 (hm (nx (s.2 6) (s.2 7)) (drwI a1 (s.2 6 2) x10)) = 0 → newK (fun k => hm (nx (s.2 6) (s.2 7)) (drwI a1 (s.2 6 2) k)) x10 = 0) := MT_new hI.2.2.2.2.2.1 y3)
  (try have hm1 : maxI 0 (fun k => tl (nx (s.2 6) (s.2 7)) (drwI a1 (s.2 6 2) k)) x10.toNat < tl (nx (s.2 6) (s.2 7)) (drwI a1 (s.2 6 2) x10) → maxI 0 (fun k => tl (nx (s.2 6) (s.2 7)) (drwI a1 (s.2 6 2) k)) (x10 + 1).toNat = tl (nx (s.2 6) (s.2 7)) (drwI a1 (s.2 6 2) x10) := max_hit (by omega))
  (try have hm2 : ¬ maxI 0 (fun k => tl (nx (s.2 6) (s.2 7)) (drwI a1 (s.2 6 2) k)) x10.toNat < tl (nx (s.2 6) (s.2 7)) (drwI a1 (s.2 6 2) x10) → maxI 0 (fun k => tl (nx (s.2 6) (s.2 7)) (drwI a1 (s.2 6 2) k)) (x10 + 1).toNat = maxI 0 (fun k => tl (nx (s.2 6) (s.2 7)) (drwI a1 (s.2 6 2) k)) x10.toNat := max_not (by omega))
  (try have hb := many_b (fun k => hm (nx (s.2 6) (s.2 7)) (drwI a1 (s.2 6 2) k) = hm (nx (s.2 6) (s.2 7)) (drwI a1 (s.2 6 2) 0)) x10.toNat)
  (try have hS1 : hm (nx (s.2 6) (s.2 7)) (drwI a1 (s.2 6 2) x10) = hm (nx (s.2 6) (s.2 7)) (drwI a1 (s.2 6 2) 0) → many (fun k => hm (nx (s.2 6) (s.2 7)) (drwI a1 (s.2 6 2) k) = hm (nx (s.2 6) (s.2 7)) (drwI a1 (s.2 6 2) 0)) (x10 + 1).toNat = many (fun k => hm (nx (s.2 6) (s.2 7)) (drwI a1 (s.2 6 2) k) = hm (nx (s.2 6) (s.2 7)) (drwI a1 (s.2 6 2) 0)) x10.toNat + 1 := fun h => many_t (by omega) h)
  (try have hS2 : ¬ hm (nx (s.2 6) (s.2 7)) (drwI a1 (s.2 6 2) x10) = hm (nx (s.2 6) (s.2 7)) (drwI a1 (s.2 6 2) 0) → many (fun k => hm (nx (s.2 6) (s.2 7)) (drwI a1 (s.2 6 2) k) = hm (nx (s.2 6) (s.2 7)) (drwI a1 (s.2 6 2) 0)) (x10 + 1).toNat = many (fun k => hm (nx (s.2 6) (s.2 7)) (drwI a1 (s.2 6 2) k) = hm (nx (s.2 6) (s.2 7)) (drwI a1 (s.2 6 2) 0)) x10.toNat := fun h => many_f (by omega) h)
  (try have hz : x10 = 0 → hm (nx (s.2 6) (s.2 7)) (drwI a1 (s.2 6 2) x10) = hm (nx (s.2 6) (s.2 7)) (drwI a1 (s.2 6 2) 0) := fun h => by rw [h])
  (try have h00 := (hm_b hg (drwI_b (sd := a1) (k := 0) hN2).1 (drwI_b (sd := a1) (k := 0) hN2).2).1)
  (try have hzz := hI.2.2.2.2.2.2.2.2.1)
  (try unfold lex3)
  (try simp only [bI_0, bI_n, Classical.not_not] at *)
  (try simp (disch := omega) only [i32_id] at *)
  first | done | omega | ((repeat' (with_reducible apply And.intro)) <;> first | assumption | rfl | omega | (exact hI.1) | (exact hI.2.1) | (exact hq) | (unfold rEvening; rw [if_neg (by omega)]) | (exact hI.2.2.1.1) | (exact MT_0 (fun z a b => hI.2.2.2.2 z a (by omega))) | (exact Or.inl ⟨rfl, rfl⟩) | (intro z h0 h1; omega) | (exact upto_s (p := fun z v => v = 0) hI.2.2.2.2 rfl) | (exact MT_s hI.2.2.2.2.2.1 (by omega)) | (unfold rEvening; rw [if_pos (by omega), if_pos (by omega), hI.2.2.2.2.2.2.1, show x10 = a2 by omega]) | (unfold rEvening; rw [if_pos (by omega), if_neg (by omega), if_pos (by omega), hI.2.2.2.2.2.2.2.1, show x10 = a2 by omega]) | (unfold rEvening; rw [if_pos (by omega), if_neg (by omega), if_neg (by omega), hI.2.2.2.2.2.2.2.2.2, show x10 = a2 by omega]) | grind [upI])
theorem vX3_evening_36 (s : MS) (a1 : Int) (a2 : Int) (a3 : Int) (hp : tOK (s.2 6) ∧ aOK (s.2 6) (s.2 7) ∧ lOK ((s.2 5) 0) (s.2 6)) (x2 : Int) (x3 : Int) (x4 : Int) (x6 : Int) (x7 : Int) (x8 : Int) (x9 : Int) (x10 : Int) (f11 : Int → Int) (f12 : Int → Int) (f13 : Int → Int) (f14 : Int → Int) (f15 : Int → Int) (f16 : Int → Int) (f17 : Int → Int) (f18 : Int → Int) (f19 : Int → Int) (k0 : Int) (k25 : Int) (k33 : Int) (k34 : Int) (hI : k0 = 0 ∧ GO (s.2 6) (s.2 7) f13 f14 f15 f16 ∧ (x2 = a2 ∧ x3 = a3 ∧ 0 < s.2 5 0 ∧ 0 ≤ a1 ∧ a1 ≤ 2000000000 ∧ 1 ≤ a2 ∧ a2 ≤ 100 ∧ 0 ≤ a3 ∧ a3 ≤ 2) ∧ (0 ≤ x10 ∧ x10 ≤ a2) ∧ x4 = drw a1 x10.toNat ∧ MT (fun k => hm (nx (s.2 6) (s.2 7)) (drwI a1 (s.2 6 2) k)) f17 (s.2 6 2) x10 ∧ x6 = sumI (newK (fun k => hm (nx (s.2 6) (s.2 7)) (drwI a1 (s.2 6 2) k))) x10.toNat ∧ x7 = maxI 0 (fun k => tl (nx (s.2 6) (s.2 7)) (drwI a1 (s.2 6 2) k)) x10.toNat ∧ ((x10 = 0 ∧ x8 = -1) ∨ (0 < x10 ∧ x8 = hm (nx (s.2 6) (s.2 7)) (drwI a1 (s.2 6 2) 0))) ∧ x9 = many (fun k => hm (nx (s.2 6) (s.2 7)) (drwI a1 (s.2 6 2) k) = hm (nx (s.2 6) (s.2 7)) (drwI a1 (s.2 6 2) 0)) x10.toNat) (c_1 : ¬ x2 ≤ x10) (o_4 : (s.2 6 2) ≠ 0) (c_5 : x8 = (-1)) (o_15 : (0 ≤ (i32 (i64 (Int.tmod (i64 (Int.tdiv (i64 (Int.tmod (i64 ((i64 (1103515245 * x4)) + 12345)) 2147483648)) 65536)) (s.2 6 2)))) ∧ (i32 (i64 (Int.tmod (i64 (Int.tdiv (i64 (Int.tmod (i64 ((i64 (1103515245 * x4)) + 12345)) 2147483648)) 65536)) (s.2 6 2)))) < 10000)) (o_16 : (0 ≤ (f15 (i32 (i64 (Int.tmod (i64 (Int.tdiv (i64 (Int.tmod (i64 ((i64 (1103515245 * x4)) + 12345)) 2147483648)) 65536)) (s.2 6 2))))) ∧ (f15 (i32 (i64 (Int.tmod (i64 (Int.tdiv (i64 (Int.tmod (i64 ((i64 (1103515245 * x4)) + 12345)) 2147483648)) 65536)) (s.2 6 2))))) < 10000)) (c_17 : ¬ (f17 (f15 (i32 (i64 (Int.tmod (i64 (Int.tdiv (i64 (Int.tmod (i64 ((i64 (1103515245 * x4)) + 12345)) 2147483648)) 65536)) (s.2 6 2)))))) = 0) (c_18 : (f14 (i32 (i64 (Int.tmod (i64 (Int.tdiv (i64 (Int.tmod (i64 ((i64 (1103515245 * x4)) + 12345)) 2147483648)) 65536)) (s.2 6 2))))) ≤ x7) (c_19 : (f15 (i32 (i64 (Int.tmod (i64 (Int.tdiv (i64 (Int.tmod (i64 ((i64 (1103515245 * x4)) + 12345)) 2147483648)) 65536)) (s.2 6 2))))) = (f15 (i32 (i64 (Int.tmod (i64 (Int.tdiv (i64 (Int.tmod (i64 ((i64 (1103515245 * x4)) + 12345)) 2147483648)) 65536)) (s.2 6 2)))))) : lex3 0 0 ((a2 - (i32 (x10 + 1))).toNat) 0 0 ((a2 - x10).toNat) := by
  obtain ⟨ht, ha, hl⟩ := hp
  have hN := tOK_N ht
  have hg := nx_rng (s.2 6) (s.2 7)
  (try simp only [bI_0, bI_n, Classical.not_not] at *)
  (try have hq := ‹GO (s.2 6) (s.2 7) _ _ _ _›)
  (try have hq := hI.2.1)
  (try have hx := GO_at hq (x := a1) (by omega) (by omega))
  (try have hN2 : 0 < s.2 6 2 := lOK_N ht hl (by omega))
  (try have hdb := drwI_b (sd := a1) (k := x10) hN2)
  (try have hd1 := drw_s (sd := a1) (by omega) (by omega) (by omega) hI.2.2.2.2.1)
  (try have hdi := drw_i (sd := a1) (N := s.2 6 2) (k := x10) (by omega) (by omega) hN2 (by omega) rfl)
  (try simp only [hd1, hdi] at *)
  (try have hy := GO_at hq hdb.1 hdb.2)
  (try (have y1 := hy.2.1.1; have y2 := hy.1.2.1; have y3 := hy.2.1.2; have y4 := hy.1.2.2))
  (try (clear hy; simp only [y1, y2] at *))
  (try have hs := sumI_s (newK (fun k => hm (nx (s.2 6) (s.2 7)) (drwI a1 (s.2 6 2) k))) (k := x10) (by omega))
  (try have hsb := sumI_b (f := newK (fun k => hm (nx (s.2 6) (s.2 7)) (drwI a1 (s.2 6 2) k))) x10.toNat (fun i _ _ => newK_01 _ _))
  (try have hn : (f17 (hm (nx (s.2 6) (s.2 7)) (drwI a1 (s.2 6 2) x10)) = 0 → newK (fun k => hm (nx (s.2 6) (s.2 7)) (drwI a1 (s.2 6 2) k)) x10 = 1) ∧ (¬ f17 (hm (nx (s.2 6) (s.2 7)) (drwI a1 (s.2 6 2) x10)) = 0 → newK (fun k => hm (nx (s.2 6) (s.2 7)) (drwI a1 (s.2 6 2) k)) x10 = 0) := MT_new hI.2.2.2.2.2.1 y3)
  (try have hm1 : maxI 0 (fun k => tl (nx (s.2 6) (s.2 7)) (drwI a1 (s.2 6 2) k)) x10.toNat < tl (nx (s.2 6) (s.2 7)) (drwI a1 (s.2 6 2) x10) → maxI 0 (fun k => tl (nx (s.2 6) (s.2 7)) (drwI a1 (s.2 6 2) k)) (x10 + 1).toNat = tl (nx (s.2 6) (s.2 7)) (drwI a1 (s.2 6 2) x10) := max_hit (by omega))
  (try have hm2 : ¬ maxI 0 (fun k => tl (nx (s.2 6) (s.2 7)) (drwI a1 (s.2 6 2) k)) x10.toNat < tl (nx (s.2 6) (s.2 7)) (drwI a1 (s.2 6 2) x10) → maxI 0 (fun k => tl (nx (s.2 6) (s.2 7)) (drwI a1 (s.2 6 2) k)) (x10 + 1).toNat = maxI 0 (fun k => tl (nx (s.2 6) (s.2 7)) (drwI a1 (s.2 6 2) k)) x10.toNat := max_not (by omega))
  (try have hb := many_b (fun k => hm (nx (s.2 6) (s.2 7)) (drwI a1 (s.2 6 2) k) = hm (nx (s.2 6) (s.2 7)) (drwI a1 (s.2 6 2) 0)) x10.toNat)
  (try have hS1 : hm (nx (s.2 6) (s.2 7)) (drwI a1 (s.2 6 2) x10) = hm (nx (s.2 6) (s.2 7)) (drwI a1 (s.2 6 2) 0) → many (fun k => hm (nx (s.2 6) (s.2 7)) (drwI a1 (s.2 6 2) k) = hm (nx (s.2 6) (s.2 7)) (drwI a1 (s.2 6 2) 0)) (x10 + 1).toNat = many (fun k => hm (nx (s.2 6) (s.2 7)) (drwI a1 (s.2 6 2) k) = hm (nx (s.2 6) (s.2 7)) (drwI a1 (s.2 6 2) 0)) x10.toNat + 1 := fun h => many_t (by omega) h)
  (try have hS2 : ¬ hm (nx (s.2 6) (s.2 7)) (drwI a1 (s.2 6 2) x10) = hm (nx (s.2 6) (s.2 7)) (drwI a1 (s.2 6 2) 0) → many (fun k => hm (nx (s.2 6) (s.2 7)) (drwI a1 (s.2 6 2) k) = hm (nx (s.2 6) (s.2 7)) (drwI a1 (s.2 6 2) 0)) (x10 + 1).toNat = many (fun k => hm (nx (s.2 6) (s.2 7)) (drwI a1 (s.2 6 2) k) = hm (nx (s.2 6) (s.2 7)) (drwI a1 (s.2 6 2) 0)) x10.toNat := fun h => many_f (by omega) h)
  (try have hz : x10 = 0 → hm (nx (s.2 6) (s.2 7)) (drwI a1 (s.2 6 2) x10) = hm (nx (s.2 6) (s.2 7)) (drwI a1 (s.2 6 2) 0) := fun h => by rw [h])
  (try have h00 := (hm_b hg (drwI_b (sd := a1) (k := 0) hN2).1 (drwI_b (sd := a1) (k := 0) hN2).2).1)
  (try have hzz := hI.2.2.2.2.2.2.2.2.1)
  (try unfold lex3)
  (try simp only [bI_0, bI_n, Classical.not_not] at *)
  (try simp (disch := omega) only [i32_id] at *)
  first | done | omega | ((repeat' (with_reducible apply And.intro)) <;> first | assumption | rfl | omega | (exact hI.1) | (exact hI.2.1) | (exact hq) | (unfold rEvening; rw [if_neg (by omega)]) | (exact hI.2.2.1.1) | (exact MT_0 (fun z a b => hI.2.2.2.2 z a (by omega))) | (exact Or.inl ⟨rfl, rfl⟩) | (intro z h0 h1; omega) | (exact upto_s (p := fun z v => v = 0) hI.2.2.2.2 rfl) | (exact MT_s hI.2.2.2.2.2.1 (by omega)) | (unfold rEvening; rw [if_pos (by omega), if_pos (by omega), hI.2.2.2.2.2.2.1, show x10 = a2 by omega]) | (unfold rEvening; rw [if_pos (by omega), if_neg (by omega), if_pos (by omega), hI.2.2.2.2.2.2.2.1, show x10 = a2 by omega]) | (unfold rEvening; rw [if_pos (by omega), if_neg (by omega), if_neg (by omega), hI.2.2.2.2.2.2.2.2.2, show x10 = a2 by omega]) | grind [upI])
theorem vX3_evening_37 (s : MS) (a1 : Int) (a2 : Int) (a3 : Int) (hp : tOK (s.2 6) ∧ aOK (s.2 6) (s.2 7) ∧ lOK ((s.2 5) 0) (s.2 6)) (x2 : Int) (x3 : Int) (x4 : Int) (x6 : Int) (x7 : Int) (x8 : Int) (x9 : Int) (x10 : Int) (f11 : Int → Int) (f12 : Int → Int) (f13 : Int → Int) (f14 : Int → Int) (f15 : Int → Int) (f16 : Int → Int) (f17 : Int → Int) (f18 : Int → Int) (f19 : Int → Int) (k0 : Int) (k25 : Int) (k33 : Int) (k34 : Int) (hI : k0 = 0 ∧ GO (s.2 6) (s.2 7) f13 f14 f15 f16 ∧ (x2 = a2 ∧ x3 = a3 ∧ 0 < s.2 5 0 ∧ 0 ≤ a1 ∧ a1 ≤ 2000000000 ∧ 1 ≤ a2 ∧ a2 ≤ 100 ∧ 0 ≤ a3 ∧ a3 ≤ 2) ∧ (0 ≤ x10 ∧ x10 ≤ a2) ∧ x4 = drw a1 x10.toNat ∧ MT (fun k => hm (nx (s.2 6) (s.2 7)) (drwI a1 (s.2 6 2) k)) f17 (s.2 6 2) x10 ∧ x6 = sumI (newK (fun k => hm (nx (s.2 6) (s.2 7)) (drwI a1 (s.2 6 2) k))) x10.toNat ∧ x7 = maxI 0 (fun k => tl (nx (s.2 6) (s.2 7)) (drwI a1 (s.2 6 2) k)) x10.toNat ∧ ((x10 = 0 ∧ x8 = -1) ∨ (0 < x10 ∧ x8 = hm (nx (s.2 6) (s.2 7)) (drwI a1 (s.2 6 2) 0))) ∧ x9 = many (fun k => hm (nx (s.2 6) (s.2 7)) (drwI a1 (s.2 6 2) k) = hm (nx (s.2 6) (s.2 7)) (drwI a1 (s.2 6 2) 0)) x10.toNat) (c_1 : ¬ x2 ≤ x10) (o_4 : (s.2 6 2) ≠ 0) (c_5 : x8 = (-1)) (o_15 : (0 ≤ (i32 (i64 (Int.tmod (i64 (Int.tdiv (i64 (Int.tmod (i64 ((i64 (1103515245 * x4)) + 12345)) 2147483648)) 65536)) (s.2 6 2)))) ∧ (i32 (i64 (Int.tmod (i64 (Int.tdiv (i64 (Int.tmod (i64 ((i64 (1103515245 * x4)) + 12345)) 2147483648)) 65536)) (s.2 6 2)))) < 10000)) (o_16 : (0 ≤ (f15 (i32 (i64 (Int.tmod (i64 (Int.tdiv (i64 (Int.tmod (i64 ((i64 (1103515245 * x4)) + 12345)) 2147483648)) 65536)) (s.2 6 2))))) ∧ (f15 (i32 (i64 (Int.tmod (i64 (Int.tdiv (i64 (Int.tmod (i64 ((i64 (1103515245 * x4)) + 12345)) 2147483648)) 65536)) (s.2 6 2))))) < 10000)) (c_17 : ¬ (f17 (f15 (i32 (i64 (Int.tmod (i64 (Int.tdiv (i64 (Int.tmod (i64 ((i64 (1103515245 * x4)) + 12345)) 2147483648)) 65536)) (s.2 6 2)))))) = 0) (c_18 : ¬ (f14 (i32 (i64 (Int.tmod (i64 (Int.tdiv (i64 (Int.tmod (i64 ((i64 (1103515245 * x4)) + 12345)) 2147483648)) 65536)) (s.2 6 2))))) ≤ x7) (c_20 : ¬ (f15 (i32 (i64 (Int.tmod (i64 (Int.tdiv (i64 (Int.tmod (i64 ((i64 (1103515245 * x4)) + 12345)) 2147483648)) 65536)) (s.2 6 2))))) = (f15 (i32 (i64 (Int.tmod (i64 (Int.tdiv (i64 (Int.tmod (i64 ((i64 (1103515245 * x4)) + 12345)) 2147483648)) 65536)) (s.2 6 2)))))) : k0 = 0 ∧ GO (s.2 6) (s.2 7) f13 f14 f15 f16 ∧ (x2 = a2 ∧ x3 = a3 ∧ 0 < s.2 5 0 ∧ 0 ≤ a1 ∧ a1 ≤ 2000000000 ∧ 1 ≤ a2 ∧ a2 ≤ 100 ∧ 0 ≤ a3 ∧ a3 ≤ 2) ∧ (0 ≤ (i32 (x10 + 1)) ∧ (i32 (x10 + 1)) ≤ a2) ∧ (i64 (Int.tmod (i64 ((i64 (1103515245 * x4)) + 12345)) 2147483648)) = drw a1 (i32 (x10 + 1)).toNat ∧ MT (fun k => hm (nx (s.2 6) (s.2 7)) (drwI a1 (s.2 6 2) k)) (upI f17 (f15 (i32 (i64 (Int.tmod (i64 (Int.tdiv (i64 (Int.tmod (i64 ((i64 (1103515245 * x4)) + 12345)) 2147483648)) 65536)) (s.2 6 2))))) 1) (s.2 6 2) (i32 (x10 + 1)) ∧ (i32 (x6 + 0)) = sumI (newK (fun k => hm (nx (s.2 6) (s.2 7)) (drwI a1 (s.2 6 2) k))) (i32 (x10 + 1)).toNat ∧ (f14 (i32 (i64 (Int.tmod (i64 (Int.tdiv (i64 (Int.tmod (i64 ((i64 (1103515245 * x4)) + 12345)) 2147483648)) 65536)) (s.2 6 2))))) = maxI 0 (fun k => tl (nx (s.2 6) (s.2 7)) (drwI a1 (s.2 6 2) k)) (i32 (x10 + 1)).toNat ∧ (((i32 (x10 + 1)) = 0 ∧ (f15 (i32 (i64 (Int.tmod (i64 (Int.tdiv (i64 (Int.tmod (i64 ((i64 (1103515245 * x4)) + 12345)) 2147483648)) 65536)) (s.2 6 2))))) = -1) ∨ (0 < (i32 (x10 + 1)) ∧ (f15 (i32 (i64 (Int.tmod (i64 (Int.tdiv (i64 (Int.tmod (i64 ((i64 (1103515245 * x4)) + 12345)) 2147483648)) 65536)) (s.2 6 2))))) = hm (nx (s.2 6) (s.2 7)) (drwI a1 (s.2 6 2) 0))) ∧ (i32 (x9 + 0)) = many (fun k => hm (nx (s.2 6) (s.2 7)) (drwI a1 (s.2 6 2) k) = hm (nx (s.2 6) (s.2 7)) (drwI a1 (s.2 6 2) 0)) (i32 (x10 + 1)).toNat := by
  obtain ⟨ht, ha, hl⟩ := hp
  have hN := tOK_N ht
  have hg := nx_rng (s.2 6) (s.2 7)
  (try simp only [bI_0, bI_n, Classical.not_not] at *)
  (try have hq := ‹GO (s.2 6) (s.2 7) _ _ _ _›)
  (try have hq := hI.2.1)
  (try have hx := GO_at hq (x := a1) (by omega) (by omega))
  (try have hN2 : 0 < s.2 6 2 := lOK_N ht hl (by omega))
  (try have hdb := drwI_b (sd := a1) (k := x10) hN2)
  (try have hd1 := drw_s (sd := a1) (by omega) (by omega) (by omega) hI.2.2.2.2.1)
  (try have hdi := drw_i (sd := a1) (N := s.2 6 2) (k := x10) (by omega) (by omega) hN2 (by omega) rfl)
  (try simp only [hd1, hdi] at *)
  (try have hy := GO_at hq hdb.1 hdb.2)
  (try (have y1 := hy.2.1.1; have y2 := hy.1.2.1; have y3 := hy.2.1.2; have y4 := hy.1.2.2))
  (try (clear hy; simp only [y1, y2] at *))
  (try have hs := sumI_s (newK (fun k => hm (nx (s.2 6) (s.2 7)) (drwI a1 (s.2 6 2) k))) (k := x10) (by omega))
  (try have hsb := sumI_b (f := newK (fun k => hm (nx (s.2 6) (s.2 7)) (drwI a1 (s.2 6 2) k))) x10.toNat (fun i _ _ => newK_01 _ _))
  (try have hn : (f17 (hm (nx (s.2 6) (s.2 7)) (drwI a1 (s.2 6 2) x10)) = 0 → newK (fun k => hm (nx (s.2 6) (s.2 7)) (drwI a1 (s.2 6 2) k)) x10 = 1) ∧ (¬ f17 (hm (nx (s.2 6) (s.2 7)) (drwI a1 (s.2 6 2) x10)) = 0 → newK (fun k => hm (nx (s.2 6) (s.2 7)) (drwI a1 (s.2 6 2) k)) x10 = 0) := MT_new hI.2.2.2.2.2.1 y3)
  (try have hm1 : maxI 0 (fun k => tl (nx (s.2 6) (s.2 7)) (drwI a1 (s.2 6 2) k)) x10.toNat < tl (nx (s.2 6) (s.2 7)) (drwI a1 (s.2 6 2) x10) → maxI 0 (fun k => tl (nx (s.2 6) (s.2 7)) (drwI a1 (s.2 6 2) k)) (x10 + 1).toNat = tl (nx (s.2 6) (s.2 7)) (drwI a1 (s.2 6 2) x10) := max_hit (by omega))
  (try have hm2 : ¬ maxI 0 (fun k => tl (nx (s.2 6) (s.2 7)) (drwI a1 (s.2 6 2) k)) x10.toNat < tl (nx (s.2 6) (s.2 7)) (drwI a1 (s.2 6 2) x10) → maxI 0 (fun k => tl (nx (s.2 6) (s.2 7)) (drwI a1 (s.2 6 2) k)) (x10 + 1).toNat = maxI 0 (fun k => tl (nx (s.2 6) (s.2 7)) (drwI a1 (s.2 6 2) k)) x10.toNat := max_not (by omega))
  (try have hb := many_b (fun k => hm (nx (s.2 6) (s.2 7)) (drwI a1 (s.2 6 2) k) = hm (nx (s.2 6) (s.2 7)) (drwI a1 (s.2 6 2) 0)) x10.toNat)
  (try have hS1 : hm (nx (s.2 6) (s.2 7)) (drwI a1 (s.2 6 2) x10) = hm (nx (s.2 6) (s.2 7)) (drwI a1 (s.2 6 2) 0) → many (fun k => hm (nx (s.2 6) (s.2 7)) (drwI a1 (s.2 6 2) k) = hm (nx (s.2 6) (s.2 7)) (drwI a1 (s.2 6 2) 0)) (x10 + 1).toNat = many (fun k => hm (nx (s.2 6) (s.2 7)) (drwI a1 (s.2 6 2) k) = hm (nx (s.2 6) (s.2 7)) (drwI a1 (s.2 6 2) 0)) x10.toNat + 1 := fun h => many_t (by omega) h)
  (try have hS2 : ¬ hm (nx (s.2 6) (s.2 7)) (drwI a1 (s.2 6 2) x10) = hm (nx (s.2 6) (s.2 7)) (drwI a1 (s.2 6 2) 0) → many (fun k => hm (nx (s.2 6) (s.2 7)) (drwI a1 (s.2 6 2) k) = hm (nx (s.2 6) (s.2 7)) (drwI a1 (s.2 6 2) 0)) (x10 + 1).toNat = many (fun k => hm (nx (s.2 6) (s.2 7)) (drwI a1 (s.2 6 2) k) = hm (nx (s.2 6) (s.2 7)) (drwI a1 (s.2 6 2) 0)) x10.toNat := fun h => many_f (by omega) h)
  (try have hz : x10 = 0 → hm (nx (s.2 6) (s.2 7)) (drwI a1 (s.2 6 2) x10) = hm (nx (s.2 6) (s.2 7)) (drwI a1 (s.2 6 2) 0) := fun h => by rw [h])
  (try have h00 := (hm_b hg (drwI_b (sd := a1) (k := 0) hN2).1 (drwI_b (sd := a1) (k := 0) hN2).2).1)
  (try have hzz := hI.2.2.2.2.2.2.2.2.1)
  (try unfold lex3)
  (try simp only [bI_0, bI_n, Classical.not_not] at *)
  (try simp (disch := omega) only [i32_id] at *)
  first | done | omega | ((repeat' (with_reducible apply And.intro)) <;> first | assumption | rfl | omega | (exact hI.1) | (exact hI.2.1) | (exact hq) | (unfold rEvening; rw [if_neg (by omega)]) | (exact hI.2.2.1.1) | (exact MT_0 (fun z a b => hI.2.2.2.2 z a (by omega))) | (exact Or.inl ⟨rfl, rfl⟩) | (intro z h0 h1; omega) | (exact upto_s (p := fun z v => v = 0) hI.2.2.2.2 rfl) | (exact MT_s hI.2.2.2.2.2.1 (by omega)) | (unfold rEvening; rw [if_pos (by omega), if_pos (by omega), hI.2.2.2.2.2.2.1, show x10 = a2 by omega]) | (unfold rEvening; rw [if_pos (by omega), if_neg (by omega), if_pos (by omega), hI.2.2.2.2.2.2.2.1, show x10 = a2 by omega]) | (unfold rEvening; rw [if_pos (by omega), if_neg (by omega), if_neg (by omega), hI.2.2.2.2.2.2.2.2.2, show x10 = a2 by omega]) | grind [upI])
theorem vX3_evening_38 (s : MS) (a1 : Int) (a2 : Int) (a3 : Int) (hp : tOK (s.2 6) ∧ aOK (s.2 6) (s.2 7) ∧ lOK ((s.2 5) 0) (s.2 6)) (x2 : Int) (x3 : Int) (x4 : Int) (x6 : Int) (x7 : Int) (x8 : Int) (x9 : Int) (x10 : Int) (f11 : Int → Int) (f12 : Int → Int) (f13 : Int → Int) (f14 : Int → Int) (f15 : Int → Int) (f16 : Int → Int) (f17 : Int → Int) (f18 : Int → Int) (f19 : Int → Int) (k0 : Int) (k25 : Int) (k33 : Int) (k34 : Int) (hI : k0 = 0 ∧ GO (s.2 6) (s.2 7) f13 f14 f15 f16 ∧ (x2 = a2 ∧ x3 = a3 ∧ 0 < s.2 5 0 ∧ 0 ≤ a1 ∧ a1 ≤ 2000000000 ∧ 1 ≤ a2 ∧ a2 ≤ 100 ∧ 0 ≤ a3 ∧ a3 ≤ 2) ∧ (0 ≤ x10 ∧ x10 ≤ a2) ∧ x4 = drw a1 x10.toNat ∧ MT (fun k => hm (nx (s.2 6) (s.2 7)) (drwI a1 (s.2 6 2) k)) f17 (s.2 6 2) x10 ∧ x6 = sumI (newK (fun k => hm (nx (s.2 6) (s.2 7)) (drwI a1 (s.2 6 2) k))) x10.toNat ∧ x7 = maxI 0 (fun k => tl (nx (s.2 6) (s.2 7)) (drwI a1 (s.2 6 2) k)) x10.toNat ∧ ((x10 = 0 ∧ x8 = -1) ∨ (0 < x10 ∧ x8 = hm (nx (s.2 6) (s.2 7)) (drwI a1 (s.2 6 2) 0))) ∧ x9 = many (fun k => hm (nx (s.2 6) (s.2 7)) (drwI a1 (s.2 6 2) k) = hm (nx (s.2 6) (s.2 7)) (drwI a1 (s.2 6 2) 0)) x10.toNat) (c_1 : ¬ x2 ≤ x10) (o_4 : (s.2 6 2) ≠ 0) (c_5 : x8 = (-1)) (o_15 : (0 ≤ (i32 (i64 (Int.tmod (i64 (Int.tdiv (i64 (Int.tmod (i64 ((i64 (1103515245 * x4)) + 12345)) 2147483648)) 65536)) (s.2 6 2)))) ∧ (i32 (i64 (Int.tmod (i64 (Int.tdiv (i64 (Int.tmod (i64 ((i64 (1103515245 * x4)) + 12345)) 2147483648)) 65536)) (s.2 6 2)))) < 10000)) (o_16 : (0 ≤ (f15 (i32 (i64 (Int.tmod (i64 (Int.tdiv (i64 (Int.tmod (i64 ((i64 (1103515245 * x4)) + 12345)) 2147483648)) 65536)) (s.2 6 2))))) ∧ (f15 (i32 (i64 (Int.tmod (i64 (Int.tdiv (i64 (Int.tmod (i64 ((i64 (1103515245 * x4)) + 12345)) 2147483648)) 65536)) (s.2 6 2))))) < 10000)) (c_17 : ¬ (f17 (f15 (i32 (i64 (Int.tmod (i64 (Int.tdiv (i64 (Int.tmod (i64 ((i64 (1103515245 * x4)) + 12345)) 2147483648)) 65536)) (s.2 6 2)))))) = 0) (c_18 : ¬ (f14 (i32 (i64 (Int.tmod (i64 (Int.tdiv (i64 (Int.tmod (i64 ((i64 (1103515245 * x4)) + 12345)) 2147483648)) 65536)) (s.2 6 2))))) ≤ x7) (c_20 : ¬ (f15 (i32 (i64 (Int.tmod (i64 (Int.tdiv (i64 (Int.tmod (i64 ((i64 (1103515245 * x4)) + 12345)) 2147483648)) 65536)) (s.2 6 2))))) = (f15 (i32 (i64 (Int.tmod (i64 (Int.tdiv (i64 (Int.tmod (i64 ((i64 (1103515245 * x4)) + 12345)) 2147483648)) 65536)) (s.2 6 2)))))) : lex3 0 0 ((a2 - (i32 (x10 + 1))).toNat) 0 0 ((a2 - x10).toNat) := by
  obtain ⟨ht, ha, hl⟩ := hp
  have hN := tOK_N ht
  have hg := nx_rng (s.2 6) (s.2 7)
  (try simp only [bI_0, bI_n, Classical.not_not] at *)
  (try have hq := ‹GO (s.2 6) (s.2 7) _ _ _ _›)
  (try have hq := hI.2.1)
  (try have hx := GO_at hq (x := a1) (by omega) (by omega))
  (try have hN2 : 0 < s.2 6 2 := lOK_N ht hl (by omega))
  (try have hdb := drwI_b (sd := a1) (k := x10) hN2)
  (try have hd1 := drw_s (sd := a1) (by omega) (by omega) (by omega) hI.2.2.2.2.1)
  (try have hdi := drw_i (sd := a1) (N := s.2 6 2) (k := x10) (by omega) (by omega) hN2 (by omega) rfl)
  (try simp only [hd1, hdi] at *)
  (try have hy := GO_at hq hdb.1 hdb.2)
  (try (have y1 := hy.2.1.1; have y2 := hy.1.2.1; have y3 := hy.2.1.2; have y4 := hy.1.2.2))
  (try (clear hy; simp only [y1, y2] at *))
  (try have hs := sumI_s (newK (fun k => hm (nx (s.2 6) (s.2 7)) (drwI a1 (s.2 6 2) k))) (k := x10) (by omega))
  (try have hsb := sumI_b (f := newK (fun k => hm (nx (s.2 6) (s.2 7)) (drwI a1 (s.2 6 2) k))) x10.toNat (fun i _ _ => newK_01 _ _))
  (try have hn : (f17 (hm (nx (s.2 6) (s.2 7)) (drwI a1 (s.2 6 2) x10)) = 0 → newK (fun k => hm (nx (s.2 6) (s.2 7)) (drwI a1 (s.2 6 2) k)) x10 = 1) ∧ (¬ f17 (hm (nx (s.2 6) (s.2 7)) (drwI a1 (s.2 6 2) x10)) = 0 → newK (fun k => hm (nx (s.2 6) (s.2 7)) (drwI a1 (s.2 6 2) k)) x10 = 0) := MT_new hI.2.2.2.2.2.1 y3)
  (try have hm1 : maxI 0 (fun k => tl (nx (s.2 6) (s.2 7)) (drwI a1 (s.2 6 2) k)) x10.toNat < tl (nx (s.2 6) (s.2 7)) (drwI a1 (s.2 6 2) x10) → maxI 0 (fun k => tl (nx (s.2 6) (s.2 7)) (drwI a1 (s.2 6 2) k)) (x10 + 1).toNat = tl (nx (s.2 6) (s.2 7)) (drwI a1 (s.2 6 2) x10) := max_hit (by omega))
  (try have hm2 : ¬ maxI 0 (fun k => tl (nx (s.2 6) (s.2 7)) (drwI a1 (s.2 6 2) k)) x10.toNat < tl (nx (s.2 6) (s.2 7)) (drwI a1 (s.2 6 2) x10) → maxI 0 (fun k => tl (nx (s.2 6) (s.2 7)) (drwI a1 (s.2 6 2) k)) (x10 + 1).toNat = maxI 0 (fun k => tl (nx (s.2 6) (s.2 7)) (drwI a1 (s.2 6 2) k)) x10.toNat := max_not (by omega))
  (try have hb := many_b (fun k => hm (nx (s.2 6) (s.2 7)) (drwI a1 (s.2 6 2) k) = hm (nx (s.2 6) (s.2 7)) (drwI a1 (s.2 6 2) 0)) x10.toNat)
  (try have hS1 : hm (nx (s.2 6) (s.2 7)) (drwI a1 (s.2 6 2) x10) = hm (nx (s.2 6) (s.2 7)) (drwI a1 (s.2 6 2) 0) → many (fun k => hm (nx (s.2 6) (s.2 7)) (drwI a1 (s.2 6 2) k) = hm (nx (s.2 6) (s.2 7)) (drwI a1 (s.2 6 2) 0)) (x10 + 1).toNat = many (fun k => hm (nx (s.2 6) (s.2 7)) (drwI a1 (s.2 6 2) k) = hm (nx (s.2 6) (s.2 7)) (drwI a1 (s.2 6 2) 0)) x10.toNat + 1 := fun h => many_t (by omega) h)
  (try have hS2 : ¬ hm (nx (s.2 6) (s.2 7)) (drwI a1 (s.2 6 2) x10) = hm (nx (s.2 6) (s.2 7)) (drwI a1 (s.2 6 2) 0) → many (fun k => hm (nx (s.2 6) (s.2 7)) (drwI a1 (s.2 6 2) k) = hm (nx (s.2 6) (s.2 7)) (drwI a1 (s.2 6 2) 0)) (x10 + 1).toNat = many (fun k => hm (nx (s.2 6) (s.2 7)) (drwI a1 (s.2 6 2) k) = hm (nx (s.2 6) (s.2 7)) (drwI a1 (s.2 6 2) 0)) x10.toNat := fun h => many_f (by omega) h)
  (try have hz : x10 = 0 → hm (nx (s.2 6) (s.2 7)) (drwI a1 (s.2 6 2) x10) = hm (nx (s.2 6) (s.2 7)) (drwI a1 (s.2 6 2) 0) := fun h => by rw [h])
  (try have h00 := (hm_b hg (drwI_b (sd := a1) (k := 0) hN2).1 (drwI_b (sd := a1) (k := 0) hN2).2).1)
  (try have hzz := hI.2.2.2.2.2.2.2.2.1)
  (try unfold lex3)
  (try simp only [bI_0, bI_n, Classical.not_not] at *)
  (try simp (disch := omega) only [i32_id] at *)
  first | done | omega | ((repeat' (with_reducible apply And.intro)) <;> first | assumption | rfl | omega | (exact hI.1) | (exact hI.2.1) | (exact hq) | (unfold rEvening; rw [if_neg (by omega)]) | (exact hI.2.2.1.1) | (exact MT_0 (fun z a b => hI.2.2.2.2 z a (by omega))) | (exact Or.inl ⟨rfl, rfl⟩) | (intro z h0 h1; omega) | (exact upto_s (p := fun z v => v = 0) hI.2.2.2.2 rfl) | (exact MT_s hI.2.2.2.2.2.1 (by omega)) | (unfold rEvening; rw [if_pos (by omega), if_pos (by omega), hI.2.2.2.2.2.2.1, show x10 = a2 by omega]) | (unfold rEvening; rw [if_pos (by omega), if_neg (by omega), if_pos (by omega), hI.2.2.2.2.2.2.2.1, show x10 = a2 by omega]) | (unfold rEvening; rw [if_pos (by omega), if_neg (by omega), if_neg (by omega), hI.2.2.2.2.2.2.2.2.2, show x10 = a2 by omega]) | grind [upI])
theorem vX3_evening_39 (s : MS) (a1 : Int) (a2 : Int) (a3 : Int) (hp : tOK (s.2 6) ∧ aOK (s.2 6) (s.2 7) ∧ lOK ((s.2 5) 0) (s.2 6)) (x2 : Int) (x3 : Int) (x4 : Int) (x6 : Int) (x7 : Int) (x8 : Int) (x9 : Int) (x10 : Int) (f11 : Int → Int) (f12 : Int → Int) (f13 : Int → Int) (f14 : Int → Int) (f15 : Int → Int) (f16 : Int → Int) (f17 : Int → Int) (f18 : Int → Int) (f19 : Int → Int) (k0 : Int) (k25 : Int) (k33 : Int) (k34 : Int) (hI : k0 = 0 ∧ GO (s.2 6) (s.2 7) f13 f14 f15 f16 ∧ (x2 = a2 ∧ x3 = a3 ∧ 0 < s.2 5 0 ∧ 0 ≤ a1 ∧ a1 ≤ 2000000000 ∧ 1 ≤ a2 ∧ a2 ≤ 100 ∧ 0 ≤ a3 ∧ a3 ≤ 2) ∧ (0 ≤ x10 ∧ x10 ≤ a2) ∧ x4 = drw a1 x10.toNat ∧ MT (fun k => hm (nx (s.2 6) (s.2 7)) (drwI a1 (s.2 6 2) k)) f17 (s.2 6 2) x10 ∧ x6 = sumI (newK (fun k => hm (nx (s.2 6) (s.2 7)) (drwI a1 (s.2 6 2) k))) x10.toNat ∧ x7 = maxI 0 (fun k => tl (nx (s.2 6) (s.2 7)) (drwI a1 (s.2 6 2) k)) x10.toNat ∧ ((x10 = 0 ∧ x8 = -1) ∨ (0 < x10 ∧ x8 = hm (nx (s.2 6) (s.2 7)) (drwI a1 (s.2 6 2) 0))) ∧ x9 = many (fun k => hm (nx (s.2 6) (s.2 7)) (drwI a1 (s.2 6 2) k) = hm (nx (s.2 6) (s.2 7)) (drwI a1 (s.2 6 2) 0)) x10.toNat) (c_1 : ¬ x2 ≤ x10) (o_4 : (s.2 6 2) ≠ 0) (c_5 : x8 = (-1)) (o_15 : (0 ≤ (i32 (i64 (Int.tmod (i64 (Int.tdiv (i64 (Int.tmod (i64 ((i64 (1103515245 * x4)) + 12345)) 2147483648)) 65536)) (s.2 6 2)))) ∧ (i32 (i64 (Int.tmod (i64 (Int.tdiv (i64 (Int.tmod (i64 ((i64 (1103515245 * x4)) + 12345)) 2147483648)) 65536)) (s.2 6 2)))) < 10000)) (o_16 : (0 ≤ (f15 (i32 (i64 (Int.tmod (i64 (Int.tdiv (i64 (Int.tmod (i64 ((i64 (1103515245 * x4)) + 12345)) 2147483648)) 65536)) (s.2 6 2))))) ∧ (f15 (i32 (i64 (Int.tmod (i64 (Int.tdiv (i64 (Int.tmod (i64 ((i64 (1103515245 * x4)) + 12345)) 2147483648)) 65536)) (s.2 6 2))))) < 10000)) (c_17 : ¬ (f17 (f15 (i32 (i64 (Int.tmod (i64 (Int.tdiv (i64 (Int.tmod (i64 ((i64 (1103515245 * x4)) + 12345)) 2147483648)) 65536)) (s.2 6 2)))))) = 0) (c_18 : ¬ (f14 (i32 (i64 (Int.tmod (i64 (Int.tdiv (i64 (Int.tmod (i64 ((i64 (1103515245 * x4)) + 12345)) 2147483648)) 65536)) (s.2 6 2))))) ≤ x7) (c_20 : (f15 (i32 (i64 (Int.tmod (i64 (Int.tdiv (i64 (Int.tmod (i64 ((i64 (1103515245 * x4)) + 12345)) 2147483648)) 65536)) (s.2 6 2))))) = (f15 (i32 (i64 (Int.tmod (i64 (Int.tdiv (i64 (Int.tmod (i64 ((i64 (1103515245 * x4)) + 12345)) 2147483648)) 65536)) (s.2 6 2)))))) : k0 = 0 ∧ GO (s.2 6) (s.2 7) f13 f14 f15 f16 ∧ (x2 = a2 ∧ x3 = a3 ∧ 0 < s.2 5 0 ∧ 0 ≤ a1 ∧ a1 ≤ 2000000000 ∧ 1 ≤ a2 ∧ a2 ≤ 100 ∧ 0 ≤ a3 ∧ a3 ≤ 2) ∧ (0 ≤ (i32 (x10 + 1)) ∧ (i32 (x10 + 1)) ≤ a2) ∧ (i64 (Int.tmod (i64 ((i64 (1103515245 * x4)) + 12345)) 2147483648)) = drw a1 (i32 (x10 + 1)).toNat ∧ MT (fun k => hm (nx (s.2 6) (s.2 7)) (drwI a1 (s.2 6 2) k)) (upI f17 (f15 (i32 (i64 (Int.tmod (i64 (Int.tdiv (i64 (Int.tmod (i64 ((i64 (1103515245 * x4)) + 12345)) 2147483648)) 65536)) (s.2 6 2))))) 1) (s.2 6 2) (i32 (x10 + 1)) ∧ (i32 (x6 + 0)) = sumI (newK (fun k => hm (nx (s.2 6) (s.2 7)) (drwI a1 (s.2 6 2) k))) (i32 (x10 + 1)).toNat ∧ (f14 (i32 (i64 (Int.tmod (i64 (Int.tdiv (i64 (Int.tmod (i64 ((i64 (1103515245 * x4)) + 12345)) 2147483648)) 65536)) (s.2 6 2))))) = maxI 0 (fun k => tl (nx (s.2 6) (s.2 7)) (drwI a1 (s.2 6 2) k)) (i32 (x10 + 1)).toNat ∧ (((i32 (x10 + 1)) = 0 ∧ (f15 (i32 (i64 (Int.tmod (i64 (Int.tdiv (i64 (Int.tmod (i64 ((i64 (1103515245 * x4)) + 12345)) 2147483648)) 65536)) (s.2 6 2))))) = -1) ∨ (0 < (i32 (x10 + 1)) ∧ (f15 (i32 (i64 (Int.tmod (i64 (Int.tdiv (i64 (Int.tmod (i64 ((i64 (1103515245 * x4)) + 12345)) 2147483648)) 65536)) (s.2 6 2))))) = hm (nx (s.2 6) (s.2 7)) (drwI a1 (s.2 6 2) 0))) ∧ (i32 (x9 + 1)) = many (fun k => hm (nx (s.2 6) (s.2 7)) (drwI a1 (s.2 6 2) k) = hm (nx (s.2 6) (s.2 7)) (drwI a1 (s.2 6 2) 0)) (i32 (x10 + 1)).toNat := by
  obtain ⟨ht, ha, hl⟩ := hp
  have hN := tOK_N ht
  have hg := nx_rng (s.2 6) (s.2 7)
  (try simp only [bI_0, bI_n, Classical.not_not] at *)
  (try have hq := ‹GO (s.2 6) (s.2 7) _ _ _ _›)
  (try have hq := hI.2.1)
  (try have hx := GO_at hq (x := a1) (by omega) (by omega))
  (try have hN2 : 0 < s.2 6 2 := lOK_N ht hl (by omega))
  (try have hdb := drwI_b (sd := a1) (k := x10) hN2)
  (try have hd1 := drw_s (sd := a1) (by omega) (by omega) (by omega) hI.2.2.2.2.1)
  (try have hdi := drw_i (sd := a1) (N := s.2 6 2) (k := x10) (by omega) (by omega) hN2 (by omega) rfl)
  (try simp only [hd1, hdi] at *)
  (try have hy := GO_at hq hdb.1 hdb.2)
  (try (have y1 := hy.2.1.1; have y2 := hy.1.2.1; have y3 := hy.2.1.2; have y4 := hy.1.2.2))
  (try (clear hy; simp only [y1, y2] at *))
  (try have hs := sumI_s (newK (fun k => hm (nx (s.2 6) (s.2 7)) (drwI a1 (s.2 6 2) k))) (k := x10) (by omega))
  (try have hsb := sumI_b (f := newK (fun k => hm (nx (s.2 6) (s.2 7)) (drwI a1 (s.2 6 2) k))) x10.toNat (fun i _ _ => newK_01 _ _))
  (try have hn : (f17 (hm (nx (s.2 6) (s.2 7)) (drwI a1 (s.2 6 2) x10)) = 0 → newK (fun k => hm (nx (s.2 6) (s.2 7)) (drwI a1 (s.2 6 2) k)) x10 = 1) ∧ (¬ f17 (hm (nx (s.2 6) (s.2 7)) (drwI a1 (s.2 6 2) x10)) = 0 → newK (fun k => hm (nx (s.2 6) (s.2 7)) (drwI a1 (s.2 6 2) k)) x10 = 0) := MT_new hI.2.2.2.2.2.1 y3)
  (try have hm1 : maxI 0 (fun k => tl (nx (s.2 6) (s.2 7)) (drwI a1 (s.2 6 2) k)) x10.toNat < tl (nx (s.2 6) (s.2 7)) (drwI a1 (s.2 6 2) x10) → maxI 0 (fun k => tl (nx (s.2 6) (s.2 7)) (drwI a1 (s.2 6 2) k)) (x10 + 1).toNat = tl (nx (s.2 6) (s.2 7)) (drwI a1 (s.2 6 2) x10) := max_hit (by omega))
  (try have hm2 : ¬ maxI 0 (fun k => tl (nx (s.2 6) (s.2 7)) (drwI a1 (s.2 6 2) k)) x10.toNat < tl (nx (s.2 6) (s.2 7)) (drwI a1 (s.2 6 2) x10) → maxI 0 (fun k => tl (nx (s.2 6) (s.2 7)) (drwI a1 (s.2 6 2) k)) (x10 + 1).toNat = maxI 0 (fun k => tl (nx (s.2 6) (s.2 7)) (drwI a1 (s.2 6 2) k)) x10.toNat := max_not (by omega))
  (try have hb := many_b (fun k => hm (nx (s.2 6) (s.2 7)) (drwI a1 (s.2 6 2) k) = hm (nx (s.2 6) (s.2 7)) (drwI a1 (s.2 6 2) 0)) x10.toNat)
  (try have hS1 : hm (nx (s.2 6) (s.2 7)) (drwI a1 (s.2 6 2) x10) = hm (nx (s.2 6) (s.2 7)) (drwI a1 (s.2 6 2) 0) → many (fun k => hm (nx (s.2 6) (s.2 7)) (drwI a1 (s.2 6 2) k) = hm (nx (s.2 6) (s.2 7)) (drwI a1 (s.2 6 2) 0)) (x10 + 1).toNat = many (fun k => hm (nx (s.2 6) (s.2 7)) (drwI a1 (s.2 6 2) k) = hm (nx (s.2 6) (s.2 7)) (drwI a1 (s.2 6 2) 0)) x10.toNat + 1 := fun h => many_t (by omega) h)
  (try have hS2 : ¬ hm (nx (s.2 6) (s.2 7)) (drwI a1 (s.2 6 2) x10) = hm (nx (s.2 6) (s.2 7)) (drwI a1 (s.2 6 2) 0) → many (fun k => hm (nx (s.2 6) (s.2 7)) (drwI a1 (s.2 6 2) k) = hm (nx (s.2 6) (s.2 7)) (drwI a1 (s.2 6 2) 0)) (x10 + 1).toNat = many (fun k => hm (nx (s.2 6) (s.2 7)) (drwI a1 (s.2 6 2) k) = hm (nx (s.2 6) (s.2 7)) (drwI a1 (s.2 6 2) 0)) x10.toNat := fun h => many_f (by omega) h)
  (try have hz : x10 = 0 → hm (nx (s.2 6) (s.2 7)) (drwI a1 (s.2 6 2) x10) = hm (nx (s.2 6) (s.2 7)) (drwI a1 (s.2 6 2) 0) := fun h => by rw [h])
  (try have h00 := (hm_b hg (drwI_b (sd := a1) (k := 0) hN2).1 (drwI_b (sd := a1) (k := 0) hN2).2).1)
  (try have hzz := hI.2.2.2.2.2.2.2.2.1)
  (try unfold lex3)
  (try simp only [bI_0, bI_n, Classical.not_not] at *)
  (try simp (disch := omega) only [i32_id] at *)
  first | done | omega | ((repeat' (with_reducible apply And.intro)) <;> first | assumption | rfl | omega | (exact hI.1) | (exact hI.2.1) | (exact hq) | (unfold rEvening; rw [if_neg (by omega)]) | (exact hI.2.2.1.1) | (exact MT_0 (fun z a b => hI.2.2.2.2 z a (by omega))) | (exact Or.inl ⟨rfl, rfl⟩) | (intro z h0 h1; omega) | (exact upto_s (p := fun z v => v = 0) hI.2.2.2.2 rfl) | (exact MT_s hI.2.2.2.2.2.1 (by omega)) | (unfold rEvening; rw [if_pos (by omega), if_pos (by omega), hI.2.2.2.2.2.2.1, show x10 = a2 by omega]) | (unfold rEvening; rw [if_pos (by omega), if_neg (by omega), if_pos (by omega), hI.2.2.2.2.2.2.2.1, show x10 = a2 by omega]) | (unfold rEvening; rw [if_pos (by omega), if_neg (by omega), if_neg (by omega), hI.2.2.2.2.2.2.2.2.2, show x10 = a2 by omega]) | grind [upI])
theorem vX3_evening_40 (s : MS) (a1 : Int) (a2 : Int) (a3 : Int) (hp : tOK (s.2 6) ∧ aOK (s.2 6) (s.2 7) ∧ lOK ((s.2 5) 0) (s.2 6)) (x2 : Int) (x3 : Int) (x4 : Int) (x6 : Int) (x7 : Int) (x8 : Int) (x9 : Int) (x10 : Int) (f11 : Int → Int) (f12 : Int → Int) (f13 : Int → Int) (f14 : Int → Int) (f15 : Int → Int) (f16 : Int → Int) (f17 : Int → Int) (f18 : Int → Int) (f19 : Int → Int) (k0 : Int) (k25 : Int) (k33 : Int) (k34 : Int) (hI : k0 = 0 ∧ GO (s.2 6) (s.2 7) f13 f14 f15 f16 ∧ (x2 = a2 ∧ x3 = a3 ∧ 0 < s.2 5 0 ∧ 0 ≤ a1 ∧ a1 ≤ 2000000000 ∧ 1 ≤ a2 ∧ a2 ≤ 100 ∧ 0 ≤ a3 ∧ a3 ≤ 2) ∧ (0 ≤ x10 ∧ x10 ≤ a2) ∧ x4 = drw a1 x10.toNat ∧ MT (fun k => hm (nx (s.2 6) (s.2 7)) (drwI a1 (s.2 6 2) k)) f17 (s.2 6 2) x10 ∧ x6 = sumI (newK (fun k => hm (nx (s.2 6) (s.2 7)) (drwI a1 (s.2 6 2) k))) x10.toNat ∧ x7 = maxI 0 (fun k => tl (nx (s.2 6) (s.2 7)) (drwI a1 (s.2 6 2) k)) x10.toNat ∧ ((x10 = 0 ∧ x8 = -1) ∨ (0 < x10 ∧ x8 = hm (nx (s.2 6) (s.2 7)) (drwI a1 (s.2 6 2) 0))) ∧ x9 = many (fun k => hm (nx (s.2 6) (s.2 7)) (drwI a1 (s.2 6 2) k) = hm (nx (s.2 6) (s.2 7)) (drwI a1 (s.2 6 2) 0)) x10.toNat) (c_1 : ¬ x2 ≤ x10) (o_4 : (s.2 6 2) ≠ 0) (c_5 : x8 = (-1)) (o_15 : (0 ≤ (i32 (i64 (Int.tmod (i64 (Int.tdiv (i64 (Int.tmod (i64 ((i64 (1103515245 * x4)) + 12345)) 2147483648)) 65536)) (s.2 6 2)))) ∧ (i32 (i64 (Int.tmod (i64 (Int.tdiv (i64 (Int.tmod (i64 ((i64 (1103515245 * x4)) + 12345)) 2147483648)) 65536)) (s.2 6 2)))) < 10000)) (o_16 : (0 ≤ (f15 (i32 (i64 (Int.tmod (i64 (Int.tdiv (i64 (Int.tmod (i64 ((i64 (1103515245 * x4)) + 12345)) 2147483648)) 65536)) (s.2 6 2))))) ∧ (f15 (i32 (i64 (Int.tmod (i64 (Int.tdiv (i64 (Int.tmod (i64 ((i64 (1103515245 * x4)) + 12345)) 2147483648)) 65536)) (s.2 6 2))))) < 10000)) (c_17 : ¬ (f17 (f15 (i32 (i64 (Int.tmod (i64 (Int.tdiv (i64 (Int.tmod (i64 ((i64 (1103515245 * x4)) + 12345)) 2147483648)) 65536)) (s.2 6 2)))))) = 0) (c_18 : ¬ (f14 (i32 (i64 (Int.tmod (i64 (Int.tdiv (i64 (Int.tmod (i64 ((i64 (1103515245 * x4)) + 12345)) 2147483648)) 65536)) (s.2 6 2))))) ≤ x7) (c_20 : (f15 (i32 (i64 (Int.tmod (i64 (Int.tdiv (i64 (Int.tmod (i64 ((i64 (1103515245 * x4)) + 12345)) 2147483648)) 65536)) (s.2 6 2))))) = (f15 (i32 (i64 (Int.tmod (i64 (Int.tdiv (i64 (Int.tmod (i64 ((i64 (1103515245 * x4)) + 12345)) 2147483648)) 65536)) (s.2 6 2)))))) : lex3 0 0 ((a2 - (i32 (x10 + 1))).toNat) 0 0 ((a2 - x10).toNat) := by
  obtain ⟨ht, ha, hl⟩ := hp
  have hN := tOK_N ht
  have hg := nx_rng (s.2 6) (s.2 7)
  (try simp only [bI_0, bI_n, Classical.not_not] at *)
  (try have hq := ‹GO (s.2 6) (s.2 7) _ _ _ _›)
  (try have hq := hI.2.1)
  (try have hx := GO_at hq (x := a1) (by omega) (by omega))
  (try have hN2 : 0 < s.2 6 2 := lOK_N ht hl (by omega))
  (try have hdb := drwI_b (sd := a1) (k := x10) hN2)
  (try have hd1 := drw_s (sd := a1) (by omega) (by omega) (by omega) hI.2.2.2.2.1)
  (try have hdi := drw_i (sd := a1) (N := s.2 6 2) (k := x10) (by omega) (by omega) hN2 (by omega) rfl)
  (try simp only [hd1, hdi] at *)
  (try have hy := GO_at hq hdb.1 hdb.2)
  (try (have y1 := hy.2.1.1; have y2 := hy.1.2.1; have y3 := hy.2.1.2; have y4 := hy.1.2.2))
  (try (clear hy; simp only [y1, y2] at *))
  (try have hs := sumI_s (newK (fun k => hm (nx (s.2 6) (s.2 7)) (drwI a1 (s.2 6 2) k))) (k := x10) (by omega))
  (try have hsb := sumI_b (f := newK (fun k => hm (nx (s.2 6) (s.2 7)) (drwI a1 (s.2 6 2) k))) x10.toNat (fun i _ _ => newK_01 _ _))
  (try have hn : (f17 (hm (nx (s.2 6) (s.2 7)) (drwI a1 (s.2 6 2) x10)) = 0 → newK (fun k => hm (nx (s.2 6) (s.2 7)) (drwI a1 (s.2 6 2) k)) x10 = 1) ∧ (¬ f17 (hm (nx (s.2 6) (s.2 7)) (drwI a1 (s.2 6 2) x10)) = 0 → newK (fun k => hm (nx (s.2 6) (s.2 7)) (drwI a1 (s.2 6 2) k)) x10 = 0) := MT_new hI.2.2.2.2.2.1 y3)
  (try have hm1 : maxI 0 (fun k => tl (nx (s.2 6) (s.2 7)) (drwI a1 (s.2 6 2) k)) x10.toNat < tl (nx (s.2 6) (s.2 7)) (drwI a1 (s.2 6 2) x10) → maxI 0 (fun k => tl (nx (s.2 6) (s.2 7)) (drwI a1 (s.2 6 2) k)) (x10 + 1).toNat = tl (nx (s.2 6) (s.2 7)) (drwI a1 (s.2 6 2) x10) := max_hit (by omega))
  (try have hm2 : ¬ maxI 0 (fun k => tl (nx (s.2 6) (s.2 7)) (drwI a1 (s.2 6 2) k)) x10.toNat < tl (nx (s.2 6) (s.2 7)) (drwI a1 (s.2 6 2) x10) → maxI 0 (fun k => tl (nx (s.2 6) (s.2 7)) (drwI a1 (s.2 6 2) k)) (x10 + 1).toNat = maxI 0 (fun k => tl (nx (s.2 6) (s.2 7)) (drwI a1 (s.2 6 2) k)) x10.toNat := max_not (by omega))
  (try have hb := many_b (fun k => hm (nx (s.2 6) (s.2 7)) (drwI a1 (s.2 6 2) k) = hm (nx (s.2 6) (s.2 7)) (drwI a1 (s.2 6 2) 0)) x10.toNat)
  (try have hS1 : hm (nx (s.2 6) (s.2 7)) (drwI a1 (s.2 6 2) x10) = hm (nx (s.2 6) (s.2 7)) (drwI a1 (s.2 6 2) 0) → many (fun k => hm (nx (s.2 6) (s.2 7)) (drwI a1 (s.2 6 2) k) = hm (nx (s.2 6) (s.2 7)) (drwI a1 (s.2 6 2) 0)) (x10 + 1).toNat = many (fun k => hm (nx (s.2 6) (s.2 7)) (drwI a1 (s.2 6 2) k) = hm (nx (s.2 6) (s.2 7)) (drwI a1 (s.2 6 2) 0)) x10.toNat + 1 := fun h => many_t (by omega) h)
  (try have hS2 : ¬ hm (nx (s.2 6) (s.2 7)) (drwI a1 (s.2 6 2) x10) = hm (nx (s.2 6) (s.2 7)) (drwI a1 (s.2 6 2) 0) → many (fun k => hm (nx (s.2 6) (s.2 7)) (drwI a1 (s.2 6 2) k) = hm (nx (s.2 6) (s.2 7)) (drwI a1 (s.2 6 2) 0)) (x10 + 1).toNat = many (fun k => hm (nx (s.2 6) (s.2 7)) (drwI a1 (s.2 6 2) k) = hm (nx (s.2 6) (s.2 7)) (drwI a1 (s.2 6 2) 0)) x10.toNat := fun h => many_f (by omega) h)
  (try have hz : x10 = 0 → hm (nx (s.2 6) (s.2 7)) (drwI a1 (s.2 6 2) x10) = hm (nx (s.2 6) (s.2 7)) (drwI a1 (s.2 6 2) 0) := fun h => by rw [h])
  (try have h00 := (hm_b hg (drwI_b (sd := a1) (k := 0) hN2).1 (drwI_b (sd := a1) (k := 0) hN2).2).1)
  (try have hzz := hI.2.2.2.2.2.2.2.2.1)
  (try unfold lex3)
  (try simp only [bI_0, bI_n, Classical.not_not] at *)
  (try simp (disch := omega) only [i32_id] at *)
  first | done | omega | ((repeat' (with_reducible apply And.intro)) <;> first | assumption | rfl | omega | (exact hI.1) | (exact hI.2.1) | (exact hq) | (unfold rEvening; rw [if_neg (by omega)]) | (exact hI.2.2.1.1) | (exact MT_0 (fun z a b => hI.2.2.2.2 z a (by omega))) | (exact Or.inl ⟨rfl, rfl⟩) | (intro z h0 h1; omega) | (exact upto_s (p := fun z v => v = 0) hI.2.2.2.2 rfl) | (exact MT_s hI.2.2.2.2.2.1 (by omega)) | (unfold rEvening; rw [if_pos (by omega), if_pos (by omega), hI.2.2.2.2.2.2.1, show x10 = a2 by omega]) | (unfold rEvening; rw [if_pos (by omega), if_neg (by omega), if_pos (by omega), hI.2.2.2.2.2.2.2.1, show x10 = a2 by omega]) | (unfold rEvening; rw [if_pos (by omega), if_neg (by omega), if_neg (by omega), hI.2.2.2.2.2.2.2.2.2, show x10 = a2 by omega]) | grind [upI])
theorem vX3_evening_41 (s : MS) (a1 : Int) (a2 : Int) (a3 : Int) (hp : tOK (s.2 6) ∧ aOK (s.2 6) (s.2 7) ∧ lOK ((s.2 5) 0) (s.2 6)) (x2 : Int) (x3 : Int) (x4 : Int) (x6 : Int) (x7 : Int) (x8 : Int) (x9 : Int) (x10 : Int) (f11 : Int → Int) (f12 : Int → Int) (f13 : Int → Int) (f14 : Int → Int) (f15 : Int → Int) (f16 : Int → Int) (f17 : Int → Int) (f18 : Int → Int) (f19 : Int → Int) (k0 : Int) (k25 : Int) (k33 : Int) (k34 : Int) (hI : k0 = 0 ∧ GO (s.2 6) (s.2 7) f13 f14 f15 f16 ∧ (x2 = a2 ∧ x3 = a3 ∧ 0 < s.2 5 0 ∧ 0 ≤ a1 ∧ a1 ≤ 2000000000 ∧ 1 ≤ a2 ∧ a2 ≤ 100 ∧ 0 ≤ a3 ∧ a3 ≤ 2) ∧ (0 ≤ x10 ∧ x10 ≤ a2) ∧ x4 = drw a1 x10.toNat ∧ MT (fun k => hm (nx (s.2 6) (s.2 7)) (drwI a1 (s.2 6 2) k)) f17 (s.2 6 2) x10 ∧ x6 = sumI (newK (fun k => hm (nx (s.2 6) (s.2 7)) (drwI a1 (s.2 6 2) k))) x10.toNat ∧ x7 = maxI 0 (fun k => tl (nx (s.2 6) (s.2 7)) (drwI a1 (s.2 6 2) k)) x10.toNat ∧ ((x10 = 0 ∧ x8 = -1) ∨ (0 < x10 ∧ x8 = hm (nx (s.2 6) (s.2 7)) (drwI a1 (s.2 6 2) 0))) ∧ x9 = many (fun k => hm (nx (s.2 6) (s.2 7)) (drwI a1 (s.2 6 2) k) = hm (nx (s.2 6) (s.2 7)) (drwI a1 (s.2 6 2) 0)) x10.toNat) (c_1 : ¬ x2 ≤ x10) (o_4 : (s.2 6 2) ≠ 0) (c_5 : x8 = (-1)) (o_15 : (0 ≤ (i32 (i64 (Int.tmod (i64 (Int.tdiv (i64 (Int.tmod (i64 ((i64 (1103515245 * x4)) + 12345)) 2147483648)) 65536)) (s.2 6 2)))) ∧ (i32 (i64 (Int.tmod (i64 (Int.tdiv (i64 (Int.tmod (i64 ((i64 (1103515245 * x4)) + 12345)) 2147483648)) 65536)) (s.2 6 2)))) < 10000)) (o_16 : (0 ≤ (f15 (i32 (i64 (Int.tmod (i64 (Int.tdiv (i64 (Int.tmod (i64 ((i64 (1103515245 * x4)) + 12345)) 2147483648)) 65536)) (s.2 6 2))))) ∧ (f15 (i32 (i64 (Int.tmod (i64 (Int.tdiv (i64 (Int.tmod (i64 ((i64 (1103515245 * x4)) + 12345)) 2147483648)) 65536)) (s.2 6 2))))) < 10000)) (c_17 : (f17 (f15 (i32 (i64 (Int.tmod (i64 (Int.tdiv (i64 (Int.tmod (i64 ((i64 (1103515245 * x4)) + 12345)) 2147483648)) 65536)) (s.2 6 2)))))) = 0) (c_21 : (f14 (i32 (i64 (Int.tmod (i64 (Int.tdiv (i64 (Int.tmod (i64 ((i64 (1103515245 * x4)) + 12345)) 2147483648)) 65536)) (s.2 6 2))))) ≤ x7) (c_22 : ¬ (f15 (i32 (i64 (Int.tmod (i64 (Int.tdiv (i64 (Int.tmod (i64 ((i64 (1103515245 * x4)) + 12345)) 2147483648)) 65536)) (s.2 6 2))))) = (f15 (i32 (i64 (Int.tmod (i64 (Int.tdiv (i64 (Int.tmod (i64 ((i64 (1103515245 * x4)) + 12345)) 2147483648)) 65536)) (s.2 6 2)))))) : k0 = 0 ∧ GO (s.2 6) (s.2 7) f13 f14 f15 f16 ∧ (x2 = a2 ∧ x3 = a3 ∧ 0 < s.2 5 0 ∧ 0 ≤ a1 ∧ a1 ≤ 2000000000 ∧ 1 ≤ a2 ∧ a2 ≤ 100 ∧ 0 ≤ a3 ∧ a3 ≤ 2) ∧ (0 ≤ (i32 (x10 + 1)) ∧ (i32 (x10 + 1)) ≤ a2) ∧ (i64 (Int.tmod (i64 ((i64 (1103515245 * x4)) + 12345)) 2147483648)) = drw a1 (i32 (x10 + 1)).toNat ∧ MT (fun k => hm (nx (s.2 6) (s.2 7)) (drwI a1 (s.2 6 2) k)) (upI f17 (f15 (i32 (i64 (Int.tmod (i64 (Int.tdiv (i64 (Int.tmod (i64 ((i64 (1103515245 * x4)) + 12345)) 2147483648)) 65536)) (s.2 6 2))))) 1) (s.2 6 2) (i32 (x10 + 1)) ∧ (i32 (x6 + 1)) = sumI (newK (fun k => hm (nx (s.2 6) (s.2 7)) (drwI a1 (s.2 6 2) k))) (i32 (x10 + 1)).toNat ∧ x7 = maxI 0 (fun k => tl (nx (s.2 6) (s.2 7)) (drwI a1 (s.2 6 2) k)) (i32 (x10 + 1)).toNat ∧ (((i32 (x10 + 1)) = 0 ∧ (f15 (i32 (i64 (Int.tmod (i64 (Int.tdiv (i64 (Int.tmod (i64 ((i64 (1103515245 * x4)) + 12345)) 2147483648)) 65536)) (s.2 6 2))))) = -1) ∨ (0 < (i32 (x10 + 1)) ∧ (f15 (i32 (i64 (Int.tmod (i64 (Int.tdiv (i64 (Int.tmod (i64 ((i64 (1103515245 * x4)) + 12345)) 2147483648)) 65536)) (s.2 6 2))))) = hm (nx (s.2 6) (s.2 7)) (drwI a1 (s.2 6 2) 0))) ∧ (i32 (x9 + 0)) = many (fun k => hm (nx (s.2 6) (s.2 7)) (drwI a1 (s.2 6 2) k) = hm (nx (s.2 6) (s.2 7)) (drwI a1 (s.2 6 2) 0)) (i32 (x10 + 1)).toNat := by
  obtain ⟨ht, ha, hl⟩ := hp
  have hN := tOK_N ht
  have hg := nx_rng (s.2 6) (s.2 7)
  (try simp only [bI_0, bI_n, Classical.not_not] at *)
  (try have hq := ‹GO (s.2 6) (s.2 7) _ _ _ _›)
  (try have hq := hI.2.1)
  (try have hx := GO_at hq (x := a1) (by omega) (by omega))
  (try have hN2 : 0 < s.2 6 2 := lOK_N ht hl (by omega))
  (try have hdb := drwI_b (sd := a1) (k := x10) hN2)
  (try have hd1 := drw_s (sd := a1) (by omega) (by omega) (by omega) hI.2.2.2.2.1)
  (try have hdi := drw_i (sd := a1) (N := s.2 6 2) (k := x10) (by omega) (by omega) hN2 (by omega) rfl)
  (try simp only [hd1, hdi] at *)
  (try have hy := GO_at hq hdb.1 hdb.2)
  (try (have y1 := hy.2.1.1; have y2 := hy.1.2.1; have y3 := hy.2.1.2; have y4 := hy.1.2.2))
  (try (clear hy; simp only [y1, y2] at *))
  (try have hs := sumI_s (newK (fun k => hm (nx (s.2 6) (s.2 7)) (drwI a1 (s.2 6 2) k))) (k := x10) (by omega))
  (try have hsb := sumI_b (f := newK (fun k => hm (nx (s.2 6) (s.2 7)) (drwI a1 (s.2 6 2) k))) x10.toNat (fun i _ _ => newK_01 _ _))
  (try have hn : (f17 (hm (nx (s.2 6) (s.2 7)) (drwI a1 (s.2 6 2) x10)) = 0 → newK (fun k => hm (nx (s.2 6) (s.2 7)) (drwI a1 (s.2 6 2) k)) x10 = 1) ∧ (¬ f17 (hm (nx (s.2 6) (s.2 7)) (drwI a1 (s.2 6 2) x10)) = 0 → newK (fun k => hm (nx (s.2 6) (s.2 7)) (drwI a1 (s.2 6 2) k)) x10 = 0) := MT_new hI.2.2.2.2.2.1 y3)
  (try have hm1 : maxI 0 (fun k => tl (nx (s.2 6) (s.2 7)) (drwI a1 (s.2 6 2) k)) x10.toNat < tl (nx (s.2 6) (s.2 7)) (drwI a1 (s.2 6 2) x10) → maxI 0 (fun k => tl (nx (s.2 6) (s.2 7)) (drwI a1 (s.2 6 2) k)) (x10 + 1).toNat = tl (nx (s.2 6) (s.2 7)) (drwI a1 (s.2 6 2) x10) := max_hit (by omega))
  (try have hm2 : ¬ maxI 0 (fun k => tl (nx (s.2 6) (s.2 7)) (drwI a1 (s.2 6 2) k)) x10.toNat < tl (nx (s.2 6) (s.2 7)) (drwI a1 (s.2 6 2) x10) → maxI 0 (fun k => tl (nx (s.2 6) (s.2 7)) (drwI a1 (s.2 6 2) k)) (x10 + 1).toNat = maxI 0 (fun k => tl (nx (s.2 6) (s.2 7)) (drwI a1 (s.2 6 2) k)) x10.toNat := max_not (by omega))
  (try have hb := many_b (fun k => hm (nx (s.2 6) (s.2 7)) (drwI a1 (s.2 6 2) k) = hm (nx (s.2 6) (s.2 7)) (drwI a1 (s.2 6 2) 0)) x10.toNat)
  (try have hS1 : hm (nx (s.2 6) (s.2 7)) (drwI a1 (s.2 6 2) x10) = hm (nx (s.2 6) (s.2 7)) (drwI a1 (s.2 6 2) 0) → many (fun k => hm (nx (s.2 6) (s.2 7)) (drwI a1 (s.2 6 2) k) = hm (nx (s.2 6) (s.2 7)) (drwI a1 (s.2 6 2) 0)) (x10 + 1).toNat = many (fun k => hm (nx (s.2 6) (s.2 7)) (drwI a1 (s.2 6 2) k) = hm (nx (s.2 6) (s.2 7)) (drwI a1 (s.2 6 2) 0)) x10.toNat + 1 := fun h => many_t (by omega) h)
  (try have hS2 : ¬ hm (nx (s.2 6) (s.2 7)) (drwI a1 (s.2 6 2) x10) = hm (nx (s.2 6) (s.2 7)) (drwI a1 (s.2 6 2) 0) → many (fun k => hm (nx (s.2 6) (s.2 7)) (drwI a1 (s.2 6 2) k) = hm (nx (s.2 6) (s.2 7)) (drwI a1 (s.2 6 2) 0)) (x10 + 1).toNat = many (fun k => hm (nx (s.2 6) (s.2 7)) (drwI a1 (s.2 6 2) k) = hm (nx (s.2 6) (s.2 7)) (drwI a1 (s.2 6 2) 0)) x10.toNat := fun h => many_f (by omega) h)
  (try have hz : x10 = 0 → hm (nx (s.2 6) (s.2 7)) (drwI a1 (s.2 6 2) x10) = hm (nx (s.2 6) (s.2 7)) (drwI a1 (s.2 6 2) 0) := fun h => by rw [h])
  (try have h00 := (hm_b hg (drwI_b (sd := a1) (k := 0) hN2).1 (drwI_b (sd := a1) (k := 0) hN2).2).1)
  (try have hzz := hI.2.2.2.2.2.2.2.2.1)
  (try unfold lex3)
  (try simp only [bI_0, bI_n, Classical.not_not] at *)
  (try simp (disch := omega) only [i32_id] at *)
  first | done | omega | ((repeat' (with_reducible apply And.intro)) <;> first | assumption | rfl | omega | (exact hI.1) | (exact hI.2.1) | (exact hq) | (unfold rEvening; rw [if_neg (by omega)]) | (exact hI.2.2.1.1) | (exact MT_0 (fun z a b => hI.2.2.2.2 z a (by omega))) | (exact Or.inl ⟨rfl, rfl⟩) | (intro z h0 h1; omega) | (exact upto_s (p := fun z v => v = 0) hI.2.2.2.2 rfl) | (exact MT_s hI.2.2.2.2.2.1 (by omega)) | (unfold rEvening; rw [if_pos (by omega), if_pos (by omega), hI.2.2.2.2.2.2.1, show x10 = a2 by omega]) | (unfold rEvening; rw [if_pos (by omega), if_neg (by omega), if_pos (by omega), hI.2.2.2.2.2.2.2.1, show x10 = a2 by omega]) | (unfold rEvening; rw [if_pos (by omega), if_neg (by omega), if_neg (by omega), hI.2.2.2.2.2.2.2.2.2, show x10 = a2 by omega]) | grind [upI])
theorem vX3_evening_42 (s : MS) (a1 : Int) (a2 : Int) (a3 : Int) (hp : tOK (s.2 6) ∧ aOK (s.2 6) (s.2 7) ∧ lOK ((s.2 5) 0) (s.2 6)) (x2 : Int) (x3 : Int) (x4 : Int) (x6 : Int) (x7 : Int) (x8 : Int) (x9 : Int) (x10 : Int) (f11 : Int → Int) (f12 : Int → Int) (f13 : Int → Int) (f14 : Int → Int) (f15 : Int → Int) (f16 : Int → Int) (f17 : Int → Int) (f18 : Int → Int) (f19 : Int → Int) (k0 : Int) (k25 : Int) (k33 : Int) (k34 : Int) (hI : k0 = 0 ∧ GO (s.2 6) (s.2 7) f13 f14 f15 f16 ∧ (x2 = a2 ∧ x3 = a3 ∧ 0 < s.2 5 0 ∧ 0 ≤ a1 ∧ a1 ≤ 2000000000 ∧ 1 ≤ a2 ∧ a2 ≤ 100 ∧ 0 ≤ a3 ∧ a3 ≤ 2) ∧ (0 ≤ x10 ∧ x10 ≤ a2) ∧ x4 = drw a1 x10.toNat ∧ MT (fun k => hm (nx (s.2 6) (s.2 7)) (drwI a1 (s.2 6 2) k)) f17 (s.2 6 2) x10 ∧ x6 = sumI (newK (fun k => hm (nx (s.2 6) (s.2 7)) (drwI a1 (s.2 6 2) k))) x10.toNat ∧ x7 = maxI 0 (fun k => tl (nx (s.2 6) (s.2 7)) (drwI a1 (s.2 6 2) k)) x10.toNat ∧ ((x10 = 0 ∧ x8 = -1) ∨ (0 < x10 ∧ x8 = hm (nx (s.2 6) (s.2 7)) (drwI a1 (s.2 6 2) 0))) ∧ x9 = many (fun k => hm (nx (s.2 6) (s.2 7)) (drwI a1 (s.2 6 2) k) = hm (nx (s.2 6) (s.2 7)) (drwI a1 (s.2 6 2) 0)) x10.toNat) (c_1 : ¬ x2 ≤ x10) (o_4 : (s.2 6 2) ≠ 0) (c_5 : x8 = (-1)) (o_15 : (0 ≤ (i32 (i64 (Int.tmod (i64 (Int.tdiv (i64 (Int.tmod (i64 ((i64 (1103515245 * x4)) + 12345)) 2147483648)) 65536)) (s.2 6 2)))) ∧ (i32 (i64 (Int.tmod (i64 (Int.tdiv (i64 (Int.tmod (i64 ((i64 (1103515245 * x4)) + 12345)) 2147483648)) 65536)) (s.2 6 2)))) < 10000)) (o_16 : (0 ≤ (f15 (i32 (i64 (Int.tmod (i64 (Int.tdiv (i64 (Int.tmod (i64 ((i64 (1103515245 * x4)) + 12345)) 2147483648)) 65536)) (s.2 6 2))))) ∧ (f15 (i32 (i64 (Int.tmod (i64 (Int.tdiv (i64 (Int.tmod (i64 ((i64 (1103515245 * x4)) + 12345)) 2147483648)) 65536)) (s.2 6 2))))) < 10000)) (c_17 : (f17 (f15 (i32 (i64 (Int.tmod (i64 (Int.tdiv (i64 (Int.tmod (i64 ((i64 (1103515245 * x4)) + 12345)) 2147483648)) 65536)) (s.2 6 2)))))) = 0) (c_21 : (f14 (i32 (i64 (Int.tmod (i64 (Int.tdiv (i64 (Int.tmod (i64 ((i64 (1103515245 * x4)) + 12345)) 2147483648)) 65536)) (s.2 6 2))))) ≤ x7) (c_22 : ¬ (f15 (i32 (i64 (Int.tmod (i64 (Int.tdiv (i64 (Int.tmod (i64 ((i64 (1103515245 * x4)) + 12345)) 2147483648)) 65536)) (s.2 6 2))))) = (f15 (i32 (i64 (Int.tmod (i64 (Int.tdiv (i64 (Int.tmod (i64 ((i64 (1103515245 * x4)) + 12345)) 2147483648)) 65536)) (s.2 6 2)))))) : lex3 0 0 ((a2 - (i32 (x10 + 1))).toNat) 0 0 ((a2 - x10).toNat) := by
  obtain ⟨ht, ha, hl⟩ := hp
  have hN := tOK_N ht
  have hg := nx_rng (s.2 6) (s.2 7)
  (try simp only [bI_0, bI_n, Classical.not_not] at *)
  (try have hq := ‹GO (s.2 6) (s.2 7) _ _ _ _›)
  (try have hq := hI.2.1)
  (try have hx := GO_at hq (x := a1) (by omega) (by omega))
  (try have hN2 : 0 < s.2 6 2 := lOK_N ht hl (by omega))
  (try have hdb := drwI_b (sd := a1) (k := x10) hN2)
  (try have hd1 := drw_s (sd := a1) (by omega) (by omega) (by omega) hI.2.2.2.2.1)
  (try have hdi := drw_i (sd := a1) (N := s.2 6 2) (k := x10) (by omega) (by omega) hN2 (by omega) rfl)
  (try simp only [hd1, hdi] at *)
  (try have hy := GO_at hq hdb.1 hdb.2)
  (try (have y1 := hy.2.1.1; have y2 := hy.1.2.1; have y3 := hy.2.1.2; have y4 := hy.1.2.2))
  (try (clear hy; simp only [y1, y2] at *))
  (try have hs := sumI_s (newK (fun k => hm (nx (s.2 6) (s.2 7)) (drwI a1 (s.2 6 2) k))) (k := x10) (by omega))
  (try have hsb := sumI_b (f := newK (fun k => hm (nx (s.2 6) (s.2 7)) (drwI a1 (s.2 6 2) k))) x10.toNat (fun i _ _ => newK_01 _ _))
  (try have hn : (f17 (hm (nx (s.2 6) (s.2 7)) (drwI a1 (s.2 6 2) x10)) = 0 → newK (fun k => hm (nx (s.2 6) (s.2 7)) (drwI a1 (s.2 6 2) k)) x10 = 1) ∧ (¬ f17 (hm (nx (s.2 6) (s.2 7)) (drwI a1 (s.2 6 2) x10)) = 0 → newK (fun k => hm (nx (s.2 6) (s.2 7)) (drwI a1 (s.2 6 2) k)) x10 = 0) := MT_new hI.2.2.2.2.2.1 y3)
  (try have hm1 : maxI 0 (fun k => tl (nx (s.2 6) (s.2 7)) (drwI a1 (s.2 6 2) k)) x10.toNat < tl (nx (s.2 6) (s.2 7)) (drwI a1 (s.2 6 2) x10) → maxI 0 (fun k => tl (nx (s.2 6) (s.2 7)) (drwI a1 (s.2 6 2) k)) (x10 + 1).toNat = tl (nx (s.2 6) (s.2 7)) (drwI a1 (s.2 6 2) x10) := max_hit (by omega))
  (try have hm2 : ¬ maxI 0 (fun k => tl (nx (s.2 6) (s.2 7)) (drwI a1 (s.2 6 2) k)) x10.toNat < tl (nx (s.2 6) (s.2 7)) (drwI a1 (s.2 6 2) x10) → maxI 0 (fun k => tl (nx (s.2 6) (s.2 7)) (drwI a1 (s.2 6 2) k)) (x10 + 1).toNat = maxI 0 (fun k => tl (nx (s.2 6) (s.2 7)) (drwI a1 (s.2 6 2) k)) x10.toNat := max_not (by omega))
  (try have hb := many_b (fun k => hm (nx (s.2 6) (s.2 7)) (drwI a1 (s.2 6 2) k) = hm (nx (s.2 6) (s.2 7)) (drwI a1 (s.2 6 2) 0)) x10.toNat)
  (try have hS1 : hm (nx (s.2 6) (s.2 7)) (drwI a1 (s.2 6 2) x10) = hm (nx (s.2 6) (s.2 7)) (drwI a1 (s.2 6 2) 0) → many (fun k => hm (nx (s.2 6) (s.2 7)) (drwI a1 (s.2 6 2) k) = hm (nx (s.2 6) (s.2 7)) (drwI a1 (s.2 6 2) 0)) (x10 + 1).toNat = many (fun k => hm (nx (s.2 6) (s.2 7)) (drwI a1 (s.2 6 2) k) = hm (nx (s.2 6) (s.2 7)) (drwI a1 (s.2 6 2) 0)) x10.toNat + 1 := fun h => many_t (by omega) h)
  (try have hS2 : ¬ hm (nx (s.2 6) (s.2 7)) (drwI a1 (s.2 6 2) x10) = hm (nx (s.2 6) (s.2 7)) (drwI a1 (s.2 6 2) 0) → many (fun k => hm (nx (s.2 6) (s.2 7)) (drwI a1 (s.2 6 2) k) = hm (nx (s.2 6) (s.2 7)) (drwI a1 (s.2 6 2) 0)) (x10 + 1).toNat = many (fun k => hm (nx (s.2 6) (s.2 7)) (drwI a1 (s.2 6 2) k) = hm (nx (s.2 6) (s.2 7)) (drwI a1 (s.2 6 2) 0)) x10.toNat := fun h => many_f (by omega) h)
  (try have hz : x10 = 0 → hm (nx (s.2 6) (s.2 7)) (drwI a1 (s.2 6 2) x10) = hm (nx (s.2 6) (s.2 7)) (drwI a1 (s.2 6 2) 0) := fun h => by rw [h])
  (try have h00 := (hm_b hg (drwI_b (sd := a1) (k := 0) hN2).1 (drwI_b (sd := a1) (k := 0) hN2).2).1)
  (try have hzz := hI.2.2.2.2.2.2.2.2.1)
  (try unfold lex3)
  (try simp only [bI_0, bI_n, Classical.not_not] at *)
  (try simp (disch := omega) only [i32_id] at *)
  first | done | omega | ((repeat' (with_reducible apply And.intro)) <;> first | assumption | rfl | omega | (exact hI.1) | (exact hI.2.1) | (exact hq) | (unfold rEvening; rw [if_neg (by omega)]) | (exact hI.2.2.1.1) | (exact MT_0 (fun z a b => hI.2.2.2.2 z a (by omega))) | (exact Or.inl ⟨rfl, rfl⟩) | (intro z h0 h1; omega) | (exact upto_s (p := fun z v => v = 0) hI.2.2.2.2 rfl) | (exact MT_s hI.2.2.2.2.2.1 (by omega)) | (unfold rEvening; rw [if_pos (by omega), if_pos (by omega), hI.2.2.2.2.2.2.1, show x10 = a2 by omega]) | (unfold rEvening; rw [if_pos (by omega), if_neg (by omega), if_pos (by omega), hI.2.2.2.2.2.2.2.1, show x10 = a2 by omega]) | (unfold rEvening; rw [if_pos (by omega), if_neg (by omega), if_neg (by omega), hI.2.2.2.2.2.2.2.2.2, show x10 = a2 by omega]) | grind [upI])
theorem vX3_evening_43 (s : MS) (a1 : Int) (a2 : Int) (a3 : Int) (hp : tOK (s.2 6) ∧ aOK (s.2 6) (s.2 7) ∧ lOK ((s.2 5) 0) (s.2 6)) (x2 : Int) (x3 : Int) (x4 : Int) (x6 : Int) (x7 : Int) (x8 : Int) (x9 : Int) (x10 : Int) (f11 : Int → Int) (f12 : Int → Int) (f13 : Int → Int) (f14 : Int → Int) (f15 : Int → Int) (f16 : Int → Int) (f17 : Int → Int) (f18 : Int → Int) (f19 : Int → Int) (k0 : Int) (k25 : Int) (k33 : Int) (k34 : Int) (hI : k0 = 0 ∧ GO (s.2 6) (s.2 7) f13 f14 f15 f16 ∧ (x2 = a2 ∧ x3 = a3 ∧ 0 < s.2 5 0 ∧ 0 ≤ a1 ∧ a1 ≤ 2000000000 ∧ 1 ≤ a2 ∧ a2 ≤ 100 ∧ 0 ≤ a3 ∧ a3 ≤ 2) ∧ (0 ≤ x10 ∧ x10 ≤ a2) ∧ x4 = drw a1 x10.toNat ∧ MT (fun k => hm (nx (s.2 6) (s.2 7)) (drwI a1 (s.2 6 2) k)) f17 (s.2 6 2) x10 ∧ x6 = sumI (newK (fun k => hm (nx (s.2 6) (s.2 7)) (drwI a1 (s.2 6 2) k))) x10.toNat ∧ x7 = maxI 0 (fun k => tl (nx (s.2 6) (s.2 7)) (drwI a1 (s.2 6 2) k)) x10.toNat ∧ ((x10 = 0 ∧ x8 = -1) ∨ (0 < x10 ∧ x8 = hm (nx (s.2 6) (s.2 7)) (drwI a1 (s.2 6 2) 0))) ∧ x9 = many (fun k => hm (nx (s.2 6) (s.2 7)) (drwI a1 (s.2 6 2) k) = hm (nx (s.2 6) (s.2 7)) (drwI a1 (s.2 6 2) 0)) x10.toNat) (c_1 : ¬ x2 ≤ x10) (o_4 : (s.2 6 2) ≠ 0) (c_5 : x8 = (-1)) (o_15 : (0 ≤ (i32 (i64 (Int.tmod (i64 (Int.tdiv (i64 (Int.tmod (i64 ((i64 (1103515245 * x4)) + 12345)) 2147483648)) 65536)) (s.2 6 2)))) ∧ (i32 (i64 (Int.tmod (i64 (Int.tdiv (i64 (Int.tmod (i64 ((i64 (1103515245 * x4)) + 12345)) 2147483648)) 65536)) (s.2 6 2)))) < 10000)) (o_16 : (0 ≤ (f15 (i32 (i64 (Int.tmod (i64 (Int.tdiv (i64 (Int.tmod (i64 ((i64 (1103515245 * x4)) + 12345)) 2147483648)) 65536)) (s.2 6 2))))) ∧ (f15 (i32 (i64 (Int.tmod (i64 (Int.tdiv (i64 (Int.tmod (i64 ((i64 (1103515245 * x4)) + 12345)) 2147483648)) 65536)) (s.2 6 2))))) < 10000)) (c_17 : (f17 (f15 (i32 (i64 (Int.tmod (i64 (Int.tdiv (i64 (Int.tmod (i64 ((i64 (1103515245 * x4)) + 12345)) 2147483648)) 65536)) (s.2 6 2)))))) = 0) (c_21 : (f14 (i32 (i64 (Int.tmod (i64 (Int.tdiv (i64 (Int.tmod (i64 ((i64 (1103515245 * x4)) + 12345)) 2147483648)) 65536)) (s.2 6 2))))) ≤ x7) (c_22 : (f15 (i32 (i64 (Int.tmod (i64 (Int.tdiv (i64 (Int.tmod (i64 ((i64 (1103515245 * x4)) + 12345)) 2147483648)) 65536)) (s.2 6 2))))) = (f15 (i32 (i64 (Int.tmod (i64 (Int.tdiv (i64 (Int.tmod (i64 ((i64 (1103515245 * x4)) + 12345)) 2147483648)) 65536)) (s.2 6 2)))))) : k0 = 0 ∧ GO (s.2 6) (s.2 7) f13 f14 f15 f16 ∧ (x2 = a2 ∧ x3 = a3 ∧ 0 < s.2 5 0 ∧ 0 ≤ a1 ∧ a1 ≤ 2000000000 ∧ 1 ≤ a2 ∧ a2 ≤ 100 ∧ 0 ≤ a3 ∧ a3 ≤ 2) ∧ (0 ≤ (i32 (x10 + 1)) ∧ (i32 (x10 + 1)) ≤ a2) ∧ (i64 (Int.tmod (i64 ((i64 (1103515245 * x4)) + 12345)) 2147483648)) = drw a1 (i32 (x10 + 1)).toNat ∧ MT (fun k => hm (nx (s.2 6) (s.2 7)) (drwI a1 (s.2 6 2) k)) (upI f17 (f15 (i32 (i64 (Int.tmod (i64 (Int.tdiv (i64 (Int.tmod (i64 ((i64 (1103515245 * x4)) + 12345)) 2147483648)) 65536)) (s.2 6 2))))) 1) (s.2 6 2) (i32 (x10 + 1)) ∧ (i32 (x6 + 1)) = sumI (newK (fun k => hm (nx (s.2 6) (s.2 7)) (drwI a1 (s.2 6 2) k))) (i32 (x10 + 1)).toNat ∧ x7 = maxI 0 (fun k => tl (nx (s.2 6) (s.2 7)) (drwI a1 (s.2 6 2) k)) (i32 (x10 + 1)).toNat ∧ (((i32 (x10 + 1)) = 0 ∧ (f15 (i32 (i64 (Int.tmod (i64 (Int.tdiv (i64 (Int.tmod (i64 ((i64 (1103515245 * x4)) + 12345)) 2147483648)) 65536)) (s.2 6 2))))) = -1) ∨ (0 < (i32 (x10 + 1)) ∧ (f15 (i32 (i64 (Int.tmod (i64 (Int.tdiv (i64 (Int.tmod (i64 ((i64 (1103515245 * x4)) + 12345)) 2147483648)) 65536)) (s.2 6 2))))) = hm (nx (s.2 6) (s.2 7)) (drwI a1 (s.2 6 2) 0))) ∧ (i32 (x9 + 1)) = many (fun k => hm (nx (s.2 6) (s.2 7)) (drwI a1 (s.2 6 2) k) = hm (nx (s.2 6) (s.2 7)) (drwI a1 (s.2 6 2) 0)) (i32 (x10 + 1)).toNat := by
  obtain ⟨ht, ha, hl⟩ := hp
  have hN := tOK_N ht
  have hg := nx_rng (s.2 6) (s.2 7)
  (try simp only [bI_0, bI_n, Classical.not_not] at *)
  (try have hq := ‹GO (s.2 6) (s.2 7) _ _ _ _›)
  (try have hq := hI.2.1)
  (try have hx := GO_at hq (x := a1) (by omega) (by omega))
  (try have hN2 : 0 < s.2 6 2 := lOK_N ht hl (by omega))
  (try have hdb := drwI_b (sd := a1) (k := x10) hN2)
  (try have hd1 := drw_s (sd := a1) (by omega) (by omega) (by omega) hI.2.2.2.2.1)
  (try have hdi := drw_i (sd := a1) (N := s.2 6 2) (k := x10) (by omega) (by omega) hN2 (by omega) rfl)
  (try simp only [hd1, hdi] at *)
  (try have hy := GO_at hq hdb.1 hdb.2)
  (try (have y1 := hy.2.1.1; have y2 := hy.1.2.1; have y3 := hy.2.1.2; have y4 := hy.1.2.2))
  (try (clear hy; simp only [y1, y2] at *))
  (try have hs := sumI_s (newK (fun k => hm (nx (s.2 6) (s.2 7)) (drwI a1 (s.2 6 2) k))) (k := x10) (by omega))
  (try have hsb := sumI_b (f := newK (fun k => hm (nx (s.2 6) (s.2 7)) (drwI a1 (s.2 6 2) k))) x10.toNat (fun i _ _ => newK_01 _ _))
  (try have hn : (f17 (hm (nx (s.2 6) (s.2 7)) (drwI a1 (s.2 6 2) x10)) = 0 → newK (fun k => hm (nx (s.2 6) (s.2 7)) (drwI a1 (s.2 6 2) k)) x10 = 1) ∧ (¬ f17 (hm (nx (s.2 6) (s.2 7)) (drwI a1 (s.2 6 2) x10)) = 0 → newK (fun k => hm (nx (s.2 6) (s.2 7)) (drwI a1 (s.2 6 2) k)) x10 = 0) := MT_new hI.2.2.2.2.2.1 y3)
  (try have hm1 : maxI 0 (fun k => tl (nx (s.2 6) (s.2 7)) (drwI a1 (s.2 6 2) k)) x10.toNat < tl (nx (s.2 6) (s.2 7)) (drwI a1 (s.2 6 2) x10) → maxI 0 (fun k => tl (nx (s.2 6) (s.2 7)) (drwI a1 (s.2 6 2) k)) (x10 + 1).toNat = tl (nx (s.2 6) (s.2 7)) (drwI a1 (s.2 6 2) x10) := max_hit (by omega))
  (try have hm2 : ¬ maxI 0 (fun k => tl (nx (s.2 6) (s.2 7)) (drwI a1 (s.2 6 2) k)) x10.toNat < tl (nx (s.2 6) (s.2 7)) (drwI a1 (s.2 6 2) x10) → maxI 0 (fun k => tl (nx (s.2 6) (s.2 7)) (drwI a1 (s.2 6 2) k)) (x10 + 1).toNat = maxI 0 (fun k => tl (nx (s.2 6) (s.2 7)) (drwI a1 (s.2 6 2) k)) x10.toNat := max_not (by omega))
  (try have hb := many_b (fun k => hm (nx (s.2 6) (s.2 7)) (drwI a1 (s.2 6 2) k) = hm (nx (s.2 6) (s.2 7)) (drwI a1 (s.2 6 2) 0)) x10.toNat)
  (try have hS1 : hm (nx (s.2 6) (s.2 7)) (drwI a1 (s.2 6 2) x10) = hm (nx (s.2 6) (s.2 7)) (drwI a1 (s.2 6 2) 0) → many (fun k => hm (nx (s.2 6) (s.2 7)) (drwI a1 (s.2 6 2) k) = hm (nx (s.2 6) (s.2 7)) (drwI a1 (s.2 6 2) 0)) (x10 + 1).toNat = many (fun k => hm (nx (s.2 6) (s.2 7)) (drwI a1 (s.2 6 2) k) = hm (nx (s.2 6) (s.2 7)) (drwI a1 (s.2 6 2) 0)) x10.toNat + 1 := fun h => many_t (by omega) h)
  (try have hS2 : ¬ hm (nx (s.2 6) (s.2 7)) (drwI a1 (s.2 6 2) x10) = hm (nx (s.2 6) (s.2 7)) (drwI a1 (s.2 6 2) 0) → many (fun k => hm (nx (s.2 6) (s.2 7)) (drwI a1 (s.2 6 2) k) = hm (nx (s.2 6) (s.2 7)) (drwI a1 (s.2 6 2) 0)) (x10 + 1).toNat = many (fun k => hm (nx (s.2 6) (s.2 7)) (drwI a1 (s.2 6 2) k) = hm (nx (s.2 6) (s.2 7)) (drwI a1 (s.2 6 2) 0)) x10.toNat := fun h => many_f (by omega) h)
  (try have hz : x10 = 0 → hm (nx (s.2 6) (s.2 7)) (drwI a1 (s.2 6 2) x10) = hm (nx (s.2 6) (s.2 7)) (drwI a1 (s.2 6 2) 0) := fun h => by rw [h])
  (try have h00 := (hm_b hg (drwI_b (sd := a1) (k := 0) hN2).1 (drwI_b (sd := a1) (k := 0) hN2).2).1)
  (try have hzz := hI.2.2.2.2.2.2.2.2.1)
  (try unfold lex3)
  (try simp only [bI_0, bI_n, Classical.not_not] at *)
  (try simp (disch := omega) only [i32_id] at *)
  first | done | omega | ((repeat' (with_reducible apply And.intro)) <;> first | assumption | rfl | omega | (exact hI.1) | (exact hI.2.1) | (exact hq) | (unfold rEvening; rw [if_neg (by omega)]) | (exact hI.2.2.1.1) | (exact MT_0 (fun z a b => hI.2.2.2.2 z a (by omega))) | (exact Or.inl ⟨rfl, rfl⟩) | (intro z h0 h1; omega) | (exact upto_s (p := fun z v => v = 0) hI.2.2.2.2 rfl) | (exact MT_s hI.2.2.2.2.2.1 (by omega)) | (unfold rEvening; rw [if_pos (by omega), if_pos (by omega), hI.2.2.2.2.2.2.1, show x10 = a2 by omega]) | (unfold rEvening; rw [if_pos (by omega), if_neg (by omega), if_pos (by omega), hI.2.2.2.2.2.2.2.1, show x10 = a2 by omega]) | (unfold rEvening; rw [if_pos (by omega), if_neg (by omega), if_neg (by omega), hI.2.2.2.2.2.2.2.2.2, show x10 = a2 by omega]) | grind [upI])
theorem vX3_evening_44 (s : MS) (a1 : Int) (a2 : Int) (a3 : Int) (hp : tOK (s.2 6) ∧ aOK (s.2 6) (s.2 7) ∧ lOK ((s.2 5) 0) (s.2 6)) (x2 : Int) (x3 : Int) (x4 : Int) (x6 : Int) (x7 : Int) (x8 : Int) (x9 : Int) (x10 : Int) (f11 : Int → Int) (f12 : Int → Int) (f13 : Int → Int) (f14 : Int → Int) (f15 : Int → Int) (f16 : Int → Int) (f17 : Int → Int) (f18 : Int → Int) (f19 : Int → Int) (k0 : Int) (k25 : Int) (k33 : Int) (k34 : Int) (hI : k0 = 0 ∧ GO (s.2 6) (s.2 7) f13 f14 f15 f16 ∧ (x2 = a2 ∧ x3 = a3 ∧ 0 < s.2 5 0 ∧ 0 ≤ a1 ∧ a1 ≤ 2000000000 ∧ 1 ≤ a2 ∧ a2 ≤ 100 ∧ 0 ≤ a3 ∧ a3 ≤ 2) ∧ (0 ≤ x10 ∧ x10 ≤ a2) ∧ x4 = drw a1 x10.toNat ∧ MT (fun k => hm (nx (s.2 6) (s.2 7)) (drwI a1 (s.2 6 2) k)) f17 (s.2 6 2) x10 ∧ x6 = sumI (newK (fun k => hm (nx (s.2 6) (s.2 7)) (drwI a1 (s.2 6 2) k))) x10.toNat ∧ x7 = maxI 0 (fun k => tl (nx (s.2 6) (s.2 7)) (drwI a1 (s.2 6 2) k)) x10.toNat ∧ ((x10 = 0 ∧ x8 = -1) ∨ (0 < x10 ∧ x8 = hm (nx (s.2 6) (s.2 7)) (drwI a1 (s.2 6 2) 0))) ∧ x9 = many (fun k => hm (nx (s.2 6) (s.2 7)) (drwI a1 (s.2 6 2) k) = hm (nx (s.2 6) (s.2 7)) (drwI a1 (s.2 6 2) 0)) x10.toNat) (c_1 : ¬ x2 ≤ x10) (o_4 : (s.2 6 2) ≠ 0) (c_5 : x8 = (-1)) (o_15 : (0 ≤ (i32 (i64 (Int.tmod (i64 (Int.tdiv (i64 (Int.tmod (i64 ((i64 (1103515245 * x4)) + 12345)) 2147483648)) 65536)) (s.2 6 2)))) ∧ (i32 (i64 (Int.tmod (i64 (Int.tdiv (i64 (Int.tmod (i64 ((i64 (1103515245 * x4)) + 12345)) 2147483648)) 65536)) (s.2 6 2)))) < 10000)) (o_16 : (0 ≤ (f15 (i32 (i64 (Int.tmod (i64 (Int.tdiv (i64 (Int.tmod (i64 ((i64 (1103515245 * x4)) + 12345)) 2147483648)) 65536)) (s.2 6 2))))) ∧ (f15 (i32 (i64 (Int.tmod (i64 (Int.tdiv (i64 (Int.tmod (i64 ((i64 (1103515245 * x4)) + 12345)) 2147483648)) 65536)) (s.2 6 2))))) < 10000)) (c_17 : (f17 (f15 (i32 (i64 (Int.tmod (i64 (Int.tdiv (i64 (Int.tmod (i64 ((i64 (1103515245 * x4)) + 12345)) 2147483648)) 65536)) (s.2 6 2)))))) = 0) (c_21 : (f14 (i32 (i64 (Int.tmod (i64 (Int.tdiv (i64 (Int.tmod (i64 ((i64 (1103515245 * x4)) + 12345)) 2147483648)) 65536)) (s.2 6 2))))) ≤ x7) (c_22 : (f15 (i32 (i64 (Int.tmod (i64 (Int.tdiv (i64 (Int.tmod (i64 ((i64 (1103515245 * x4)) + 12345)) 2147483648)) 65536)) (s.2 6 2))))) = (f15 (i32 (i64 (Int.tmod (i64 (Int.tdiv (i64 (Int.tmod (i64 ((i64 (1103515245 * x4)) + 12345)) 2147483648)) 65536)) (s.2 6 2)))))) : lex3 0 0 ((a2 - (i32 (x10 + 1))).toNat) 0 0 ((a2 - x10).toNat) := by
  obtain ⟨ht, ha, hl⟩ := hp
  have hN := tOK_N ht
  have hg := nx_rng (s.2 6) (s.2 7)
  (try simp only [bI_0, bI_n, Classical.not_not] at *)
  (try have hq := ‹GO (s.2 6) (s.2 7) _ _ _ _›)
  (try have hq := hI.2.1)
  (try have hx := GO_at hq (x := a1) (by omega) (by omega))
  (try have hN2 : 0 < s.2 6 2 := lOK_N ht hl (by omega))
  (try have hdb := drwI_b (sd := a1) (k := x10) hN2)
  (try have hd1 := drw_s (sd := a1) (by omega) (by omega) (by omega) hI.2.2.2.2.1)
  (try have hdi := drw_i (sd := a1) (N := s.2 6 2) (k := x10) (by omega) (by omega) hN2 (by omega) rfl)
  (try simp only [hd1, hdi] at *)
  (try have hy := GO_at hq hdb.1 hdb.2)
  (try (have y1 := hy.2.1.1; have y2 := hy.1.2.1; have y3 := hy.2.1.2; have y4 := hy.1.2.2))
  (try (clear hy; simp only [y1, y2] at *))
  (try have hs := sumI_s (newK (fun k => hm (nx (s.2 6) (s.2 7)) (drwI a1 (s.2 6 2) k))) (k := x10) (by omega))
  (try have hsb := sumI_b (f := newK (fun k => hm (nx (s.2 6) (s.2 7)) (drwI a1 (s.2 6 2) k))) x10.toNat (fun i _ _ => newK_01 _ _))
  (try have hn : (f17 (hm (nx (s.2 6) (s.2 7)) (drwI a1 (s.2 6 2) x10)) = 0 → newK (fun k => hm (nx (s.2 6) (s.2 7)) (drwI a1 (s.2 6 2) k)) x10 = 1) ∧ (¬ f17 (hm (nx (s.2 6) (s.2 7)) (drwI a1 (s.2 6 2) x10)) = 0 → newK (fun k => hm (nx (s.2 6) (s.2 7)) (drwI a1 (s.2 6 2) k)) x10 = 0) := MT_new hI.2.2.2.2.2.1 y3)
  (try have hm1 : maxI 0 (fun k => tl (nx (s.2 6) (s.2 7)) (drwI a1 (s.2 6 2) k)) x10.toNat < tl (nx (s.2 6) (s.2 7)) (drwI a1 (s.2 6 2) x10) → maxI 0 (fun k => tl (nx (s.2 6) (s.2 7)) (drwI a1 (s.2 6 2) k)) (x10 + 1).toNat = tl (nx (s.2 6) (s.2 7)) (drwI a1 (s.2 6 2) x10) := max_hit (by omega))
  (try have hm2 : ¬ maxI 0 (fun k => tl (nx (s.2 6) (s.2 7)) (drwI a1 (s.2 6 2) k)) x10.toNat < tl (nx (s.2 6) (s.2 7)) (drwI a1 (s.2 6 2) x10) → maxI 0 (fun k => tl (nx (s.2 6) (s.2 7)) (drwI a1 (s.2 6 2) k)) (x10 + 1).toNat = maxI 0 (fun k => tl (nx (s.2 6) (s.2 7)) (drwI a1 (s.2 6 2) k)) x10.toNat := max_not (by omega))
  (try have hb := many_b (fun k => hm (nx (s.2 6) (s.2 7)) (drwI a1 (s.2 6 2) k) = hm (nx (s.2 6) (s.2 7)) (drwI a1 (s.2 6 2) 0)) x10.toNat)
  (try have hS1 : hm (nx (s.2 6) (s.2 7)) (drwI a1 (s.2 6 2) x10) = hm (nx (s.2 6) (s.2 7)) (drwI a1 (s.2 6 2) 0) → many (fun k => hm (nx (s.2 6) (s.2 7)) (drwI a1 (s.2 6 2) k) = hm (nx (s.2 6) (s.2 7)) (drwI a1 (s.2 6 2) 0)) (x10 + 1).toNat = many (fun k => hm (nx (s.2 6) (s.2 7)) (drwI a1 (s.2 6 2) k) = hm (nx (s.2 6) (s.2 7)) (drwI a1 (s.2 6 2) 0)) x10.toNat + 1 := fun h => many_t (by omega) h)
  (try have hS2 : ¬ hm (nx (s.2 6) (s.2 7)) (drwI a1 (s.2 6 2) x10) = hm (nx (s.2 6) (s.2 7)) (drwI a1 (s.2 6 2) 0) → many (fun k => hm (nx (s.2 6) (s.2 7)) (drwI a1 (s.2 6 2) k) = hm (nx (s.2 6) (s.2 7)) (drwI a1 (s.2 6 2) 0)) (x10 + 1).toNat = many (fun k => hm (nx (s.2 6) (s.2 7)) (drwI a1 (s.2 6 2) k) = hm (nx (s.2 6) (s.2 7)) (drwI a1 (s.2 6 2) 0)) x10.toNat := fun h => many_f (by omega) h)
  (try have hz : x10 = 0 → hm (nx (s.2 6) (s.2 7)) (drwI a1 (s.2 6 2) x10) = hm (nx (s.2 6) (s.2 7)) (drwI a1 (s.2 6 2) 0) := fun h => by rw [h])
  (try have h00 := (hm_b hg (drwI_b (sd := a1) (k := 0) hN2).1 (drwI_b (sd := a1) (k := 0) hN2).2).1)
  (try have hzz := hI.2.2.2.2.2.2.2.2.1)
  (try unfold lex3)
  (try simp only [bI_0, bI_n, Classical.not_not] at *)
  (try simp (disch := omega) only [i32_id] at *)
  first | done | omega | ((repeat' (with_reducible apply And.intro)) <;> first | assumption | rfl | omega | (exact hI.1) | (exact hI.2.1) | (exact hq) | (unfold rEvening; rw [if_neg (by omega)]) | (exact hI.2.2.1.1) | (exact MT_0 (fun z a b => hI.2.2.2.2 z a (by omega))) | (exact Or.inl ⟨rfl, rfl⟩) | (intro z h0 h1; omega) | (exact upto_s (p := fun z v => v = 0) hI.2.2.2.2 rfl) | (exact MT_s hI.2.2.2.2.2.1 (by omega)) | (unfold rEvening; rw [if_pos (by omega), if_pos (by omega), hI.2.2.2.2.2.2.1, show x10 = a2 by omega]) | (unfold rEvening; rw [if_pos (by omega), if_neg (by omega), if_pos (by omega), hI.2.2.2.2.2.2.2.1, show x10 = a2 by omega]) | (unfold rEvening; rw [if_pos (by omega), if_neg (by omega), if_neg (by omega), hI.2.2.2.2.2.2.2.2.2, show x10 = a2 by omega]) | grind [upI])
theorem vX3_evening_45 (s : MS) (a1 : Int) (a2 : Int) (a3 : Int) (hp : tOK (s.2 6) ∧ aOK (s.2 6) (s.2 7) ∧ lOK ((s.2 5) 0) (s.2 6)) (x2 : Int) (x3 : Int) (x4 : Int) (x6 : Int) (x7 : Int) (x8 : Int) (x9 : Int) (x10 : Int) (f11 : Int → Int) (f12 : Int → Int) (f13 : Int → Int) (f14 : Int → Int) (f15 : Int → Int) (f16 : Int → Int) (f17 : Int → Int) (f18 : Int → Int) (f19 : Int → Int) (k0 : Int) (k25 : Int) (k33 : Int) (k34 : Int) (hI : k0 = 0 ∧ GO (s.2 6) (s.2 7) f13 f14 f15 f16 ∧ (x2 = a2 ∧ x3 = a3 ∧ 0 < s.2 5 0 ∧ 0 ≤ a1 ∧ a1 ≤ 2000000000 ∧ 1 ≤ a2 ∧ a2 ≤ 100 ∧ 0 ≤ a3 ∧ a3 ≤ 2) ∧ (0 ≤ x10 ∧ x10 ≤ a2) ∧ x4 = drw a1 x10.toNat ∧ MT (fun k => hm (nx (s.2 6) (s.2 7)) (drwI a1 (s.2 6 2) k)) f17 (s.2 6 2) x10 ∧ x6 = sumI (newK (fun k => hm (nx (s.2 6) (s.2 7)) (drwI a1 (s.2 6 2) k))) x10.toNat ∧ x7 = maxI 0 (fun k => tl (nx (s.2 6) (s.2 7)) (drwI a1 (s.2 6 2) k)) x10.toNat ∧ ((x10 = 0 ∧ x8 = -1) ∨ (0 < x10 ∧ x8 = hm (nx (s.2 6) (s.2 7)) (drwI a1 (s.2 6 2) 0))) ∧ x9 = many (fun k => hm (nx (s.2 6) (s.2 7)) (drwI a1 (s.2 6 2) k) = hm (nx (s.2 6) (s.2 7)) (drwI a1 (s.2 6 2) 0)) x10.toNat) (c_1 : ¬ x2 ≤ x10) (o_4 : (s.2 6 2) ≠ 0) (c_5 : x8 = (-1)) (o_15 : (0 ≤ (i32 (i64 (Int.tmod (i64 (Int.tdiv (i64 (Int.tmod (i64 ((i64 (1103515245 * x4)) + 12345)) 2147483648)) 65536)) (s.2 6 2)))) ∧ (i32 (i64 (Int.tmod (i64 (Int.tdiv (i64 (Int.tmod (i64 ((i64 (1103515245 * x4)) + 12345)) 2147483648)) 65536)) (s.2 6 2)))) < 10000)) (o_16 : (0 ≤ (f15 (i32 (i64 (Int.tmod (i64 (Int.tdiv (i64 (Int.tmod (i64 ((i64 (1103515245 * x4)) + 12345)) 2147483648)) 65536)) (s.2 6 2))))) ∧ (f15 (i32 (i64 (Int.tmod (i64 (Int.tdiv (i64 (Int.tmod (i64 ((i64 (1103515245 * x4)) + 12345)) 2147483648)) 65536)) (s.2 6 2))))) < 10000)) (c_17 : (f17 (f15 (i32 (i64 (Int.tmod (i64 (Int.tdiv (i64 (Int.tmod (i64 ((i64 (1103515245 * x4)) + 12345)) 2147483648)) 65536)) (s.2 6 2)))))) = 0) (c_21 : ¬ (f14 (i32 (i64 (Int.tmod (i64 (Int.tdiv (i64 (Int.tmod (i64 ((i64 (1103515245 * x4)) + 12345)) 2147483648)) 65536)) (s.2 6 2))))) ≤ x7) (c_23 : ¬ (f15 (i32 (i64 (Int.tmod (i64 (Int.tdiv (i64 (Int.tmod (i64 ((i64 (1103515245 * x4)) + 12345)) 2147483648)) 65536)) (s.2 6 2))))) = (f15 (i32 (i64 (Int.tmod (i64 (Int.tdiv (i64 (Int.tmod (i64 ((i64 (1103515245 * x4)) + 12345)) 2147483648)) 65536)) (s.2 6 2)))))) : k0 = 0 ∧ GO (s.2 6) (s.2 7) f13 f14 f15 f16 ∧ (x2 = a2 ∧ x3 = a3 ∧ 0 < s.2 5 0 ∧ 0 ≤ a1 ∧ a1 ≤ 2000000000 ∧ 1 ≤ a2 ∧ a2 ≤ 100 ∧ 0 ≤ a3 ∧ a3 ≤ 2) ∧ (0 ≤ (i32 (x10 + 1)) ∧ (i32 (x10 + 1)) ≤ a2) ∧ (i64 (Int.tmod (i64 ((i64 (1103515245 * x4)) + 12345)) 2147483648)) = drw a1 (i32 (x10 + 1)).toNat ∧ MT (fun k => hm (nx (s.2 6) (s.2 7)) (drwI a1 (s.2 6 2) k)) (upI f17 (f15 (i32 (i64 (Int.tmod (i64 (Int.tdiv (i64 (Int.tmod (i64 ((i64 (1103515245 * x4)) + 12345)) 2147483648)) 65536)) (s.2 6 2))))) 1) (s.2 6 2) (i32 (x10 + 1)) ∧ (i32 (x6 + 1)) = sumI (newK (fun k => hm (nx (s.2 6) (s.2 7)) (drwI a1 (s.2 6 2) k))) (i32 (x10 + 1)).toNat ∧ (f14 (i32 (i64 (Int.tmod (i64 (Int.tdiv (i64 (Int.tmod (i64 ((i64 (1103515245 * x4)) + 12345)) 2147483648)) 65536)) (s.2 6 2))))) = maxI 0 (fun k => tl (nx (s.2 6) (s.2 7)) (drwI a1 (s.2 6 2) k)) (i32 (x10 + 1)).toNat ∧ (((i32 (x10 + 1)) = 0 ∧ (f15 (i32 (i64 (Int.tmod (i64 (Int.tdiv (i64 (Int.tmod (i64 ((i64 (1103515245 * x4)) + 12345)) 2147483648)) 65536)) (s.2 6 2))))) = -1) ∨ (0 < (i32 (x10 + 1)) ∧ (f15 (i32 (i64 (Int.tmod (i64 (Int.tdiv (i64 (Int.tmod (i64 ((i64 (1103515245 * x4)) + 12345)) 2147483648)) 65536)) (s.2 6 2))))) = hm (nx (s.2 6) (s.2 7)) (drwI a1 (s.2 6 2) 0))) ∧ (i32 (x9 + 0)) = many (fun k => hm (nx (s.2 6) (s.2 7)) (drwI a1 (s.2 6 2) k) = hm (nx (s.2 6) (s.2 7)) (drwI a1 (s.2 6 2) 0)) (i32 (x10 + 1)).toNat := by
  obtain ⟨ht, ha, hl⟩ := hp
  have hN := tOK_N ht
  have hg := nx_rng (s.2 6) (s.2 7)
  (try simp only [bI_0, bI_n, Classical.not_not] at *)
  (try have hq := ‹GO (s.2 6) (s.2 7) _ _ _ _›)
  (try have hq := hI.2.1)
  (try have hx := GO_at hq (x := a1) (by omega) (by omega))
  (try have hN2 : 0 < s.2 6 2 := lOK_N ht hl (by omega))
  (try have hdb := drwI_b (sd := a1) (k := x10) hN2)
  (try have hd1 := drw_s (sd := a1) (by omega) (by omega) (by omega) hI.2.2.2.2.1)
  (try have hdi := drw_i (sd := a1) (N := s.2 6 2) (k := x10) (by omega) (by omega) hN2 (by omega) rfl)
  (try simp only [hd1, hdi] at *)
  (try have hy := GO_at hq hdb.1 hdb.2)
  (try (have y1 := hy.2.1.1; have y2 := hy.1.2.1; have y3 := hy.2.1.2; have y4 := hy.1.2.2))
  (try (clear hy; simp only [y1, y2] at *))
  (try have hs := sumI_s (newK (fun k => hm (nx (s.2 6) (s.2 7)) (drwI a1 (s.2 6 2) k))) (k := x10) (by omega))
  (try have hsb := sumI_b (f := newK (fun k => hm (nx (s.2 6) (s.2 7)) (drwI a1 (s.2 6 2) k))) x10.toNat (fun i _ _ => newK_01 _ _))
  (try have hn : (f17 (hm (nx (s.2 6) (s.2 7)) (drwI a1 (s.2 6 2) x10)) = 0 → newK (fun k => hm (nx (s.2 6) (s.2 7)) (drwI a1 (s.2 6 2) k)) x10 = 1) ∧ (¬ f17 (hm (nx (s.2 6) (s.2 7)) (drwI a1 (s.2 6 2) x10)) = 0 → newK (fun k => hm (nx (s.2 6) (s.2 7)) (drwI a1 (s.2 6 2) k)) x10 = 0) := MT_new hI.2.2.2.2.2.1 y3)
  (try have hm1 : maxI 0 (fun k => tl (nx (s.2 6) (s.2 7)) (drwI a1 (s.2 6 2) k)) x10.toNat < tl (nx (s.2 6) (s.2 7)) (drwI a1 (s.2 6 2) x10) → maxI 0 (fun k => tl (nx (s.2 6) (s.2 7)) (drwI a1 (s.2 6 2) k)) (x10 + 1).toNat = tl (nx (s.2 6) (s.2 7)) (drwI a1 (s.2 6 2) x10) := max_hit (by omega))
  (try have hm2 : ¬ maxI 0 (fun k => tl (nx (s.2 6) (s.2 7)) (drwI a1 (s.2 6 2) k)) x10.toNat < tl (nx (s.2 6) (s.2 7)) (drwI a1 (s.2 6 2) x10) → maxI 0 (fun k => tl (nx (s.2 6) (s.2 7)) (drwI a1 (s.2 6 2) k)) (x10 + 1).toNat = maxI 0 (fun k => tl (nx (s.2 6) (s.2 7)) (drwI a1 (s.2 6 2) k)) x10.toNat := max_not (by omega))
  (try have hb := many_b (fun k => hm (nx (s.2 6) (s.2 7)) (drwI a1 (s.2 6 2) k) = hm (nx (s.2 6) (s.2 7)) (drwI a1 (s.2 6 2) 0)) x10.toNat)
  (try have hS1 : hm (nx (s.2 6) (s.2 7)) (drwI a1 (s.2 6 2) x10) = hm (nx (s.2 6) (s.2 7)) (drwI a1 (s.2 6 2) 0) → many (fun k => hm (nx (s.2 6) (s.2 7)) (drwI a1 (s.2 6 2) k) = hm (nx (s.2 6) (s.2 7)) (drwI a1 (s.2 6 2) 0)) (x10 + 1).toNat = many (fun k => hm (nx (s.2 6) (s.2 7)) (drwI a1 (s.2 6 2) k) = hm (nx (s.2 6) (s.2 7)) (drwI a1 (s.2 6 2) 0)) x10.toNat + 1 := fun h => many_t (by omega) h)
  (try have hS2 : ¬ hm (nx (s.2 6) (s.2 7)) (drwI a1 (s.2 6 2) x10) = hm (nx (s.2 6) (s.2 7)) (drwI a1 (s.2 6 2) 0) → many (fun k => hm (nx (s.2 6) (s.2 7)) (drwI a1 (s.2 6 2) k) = hm (nx (s.2 6) (s.2 7)) (drwI a1 (s.2 6 2) 0)) (x10 + 1).toNat = many (fun k => hm (nx (s.2 6) (s.2 7)) (drwI a1 (s.2 6 2) k) = hm (nx (s.2 6) (s.2 7)) (drwI a1 (s.2 6 2) 0)) x10.toNat := fun h => many_f (by omega) h)
  (try have hz : x10 = 0 → hm (nx (s.2 6) (s.2 7)) (drwI a1 (s.2 6 2) x10) = hm (nx (s.2 6) (s.2 7)) (drwI a1 (s.2 6 2) 0) := fun h => by rw [h])
  (try have h00 := (hm_b hg (drwI_b (sd := a1) (k := 0) hN2).1 (drwI_b (sd := a1) (k := 0) hN2).2).1)
  (try have hzz := hI.2.2.2.2.2.2.2.2.1)
  (try unfold lex3)
  (try simp only [bI_0, bI_n, Classical.not_not] at *)
  (try simp (disch := omega) only [i32_id] at *)
  first | done | omega | ((repeat' (with_reducible apply And.intro)) <;> first | assumption | rfl | omega | (exact hI.1) | (exact hI.2.1) | (exact hq) | (unfold rEvening; rw [if_neg (by omega)]) | (exact hI.2.2.1.1) | (exact MT_0 (fun z a b => hI.2.2.2.2 z a (by omega))) | (exact Or.inl ⟨rfl, rfl⟩) | (intro z h0 h1; omega) | (exact upto_s (p := fun z v => v = 0) hI.2.2.2.2 rfl) | (exact MT_s hI.2.2.2.2.2.1 (by omega)) | (unfold rEvening; rw [if_pos (by omega), if_pos (by omega), hI.2.2.2.2.2.2.1, show x10 = a2 by omega]) | (unfold rEvening; rw [if_pos (by omega), if_neg (by omega), if_pos (by omega), hI.2.2.2.2.2.2.2.1, show x10 = a2 by omega]) | (unfold rEvening; rw [if_pos (by omega), if_neg (by omega), if_neg (by omega), hI.2.2.2.2.2.2.2.2.2, show x10 = a2 by omega]) | grind [upI])
theorem vX3_evening_46 (s : MS) (a1 : Int) (a2 : Int) (a3 : Int) (hp : tOK (s.2 6) ∧ aOK (s.2 6) (s.2 7) ∧ lOK ((s.2 5) 0) (s.2 6)) (x2 : Int) (x3 : Int) (x4 : Int) (x6 : Int) (x7 : Int) (x8 : Int) (x9 : Int) (x10 : Int) (f11 : Int → Int) (f12 : Int → Int) (f13 : Int → Int) (f14 : Int → Int) (f15 : Int → Int) (f16 : Int → Int) (f17 : Int → Int) (f18 : Int → Int) (f19 : Int → Int) (k0 : Int) (k25 : Int) (k33 : Int) (k34 : Int) (hI : k0 = 0 ∧ GO (s.2 6) (s.2 7) f13 f14 f15 f16 ∧ (x2 = a2 ∧ x3 = a3 ∧ 0 < s.2 5 0 ∧ 0 ≤ a1 ∧ a1 ≤ 2000000000 ∧ 1 ≤ a2 ∧ a2 ≤ 100 ∧ 0 ≤ a3 ∧ a3 ≤ 2) ∧ (0 ≤ x10 ∧ x10 ≤ a2) ∧ x4 = drw a1 x10.toNat ∧ MT (fun k => hm (nx (s.2 6) (s.2 7)) (drwI a1 (s.2 6 2) k)) f17 (s.2 6 2) x10 ∧ x6 = sumI (newK (fun k => hm (nx (s.2 6) (s.2 7)) (drwI a1 (s.2 6 2) k))) x10.toNat ∧ x7 = maxI 0 (fun k => tl (nx (s.2 6) (s.2 7)) (drwI a1 (s.2 6 2) k)) x10.toNat ∧ ((x10 = 0 ∧ x8 = -1) ∨ (0 < x10 ∧ x8 = hm (nx (s.2 6) (s.2 7)) (drwI a1 (s.2 6 2) 0))) ∧ x9 = many (fun k => hm (nx (s.2 6) (s.2 7)) (drwI a1 (s.2 6 2) k) = hm (nx (s.2 6) (s.2 7)) (drwI a1 (s.2 6 2) 0)) x10.toNat) (c_1 : ¬ x2 ≤ x10) (o_4 : (s.2 6 2) ≠ 0) (c_5 : x8 = (-1)) (o_15 : (0 ≤ (i32 (i64 (Int.tmod (i64 (Int.tdiv (i64 (Int.tmod (i64 ((i64 (1103515245 * x4)) + 12345)) 2147483648)) 65536)) (s.2 6 2)))) ∧ (i32 (i64 (Int.tmod (i64 (Int.tdiv (i64 (Int.tmod (i64 ((i64 (1103515245 * x4)) + 12345)) 2147483648)) 65536)) (s.2 6 2)))) < 10000)) (o_16 : (0 ≤ (f15 (i32 (i64 (Int.tmod (i64 (Int.tdiv (i64 (Int.tmod (i64 ((i64 (1103515245 * x4)) + 12345)) 2147483648)) 65536)) (s.2 6 2))))) ∧ (f15 (i32 (i64 (Int.tmod (i64 (Int.tdiv (i64 (Int.tmod (i64 ((i64 (1103515245 * x4)) + 12345)) 2147483648)) 65536)) (s.2 6 2))))) < 10000)) (c_17 : (f17 (f15 (i32 (i64 (Int.tmod (i64 (Int.tdiv (i64 (Int.tmod (i64 ((i64 (1103515245 * x4)) + 12345)) 2147483648)) 65536)) (s.2 6 2)))))) = 0) (c_21 : ¬ (f14 (i32 (i64 (Int.tmod (i64 (Int.tdiv (i64 (Int.tmod (i64 ((i64 (1103515245 * x4)) + 12345)) 2147483648)) 65536)) (s.2 6 2))))) ≤ x7) (c_23 : ¬ (f15 (i32 (i64 (Int.tmod (i64 (Int.tdiv (i64 (Int.tmod (i64 ((i64 (1103515245 * x4)) + 12345)) 2147483648)) 65536)) (s.2 6 2))))) = (f15 (i32 (i64 (Int.tmod (i64 (Int.tdiv (i64 (Int.tmod (i64 ((i64 (1103515245 * x4)) + 12345)) 2147483648)) 65536)) (s.2 6 2)))))) : lex3 0 0 ((a2 - (i32 (x10 + 1))).toNat) 0 0 ((a2 - x10).toNat) := by
  obtain ⟨ht, ha, hl⟩ := hp
  have hN := tOK_N ht
  have hg := nx_rng (s.2 6) (s.2 7)
  (try simp only [bI_0, bI_n, Classical.not_not] at *)
  (try have hq := ‹GO (s.2 6) (s.2 7) _ _ _ _›)
  (try have hq := hI.2.1)
  (try have hx := GO_at hq (x := a1) (by omega) (by omega))
  (try have hN2 : 0 < s.2 6 2 := lOK_N ht hl (by omega))
  (try have hdb := drwI_b (sd := a1) (k := x10) hN2)
  (try have hd1 := drw_s (sd := a1) (by omega) (by omega) (by omega) hI.2.2.2.2.1)
  (try have hdi := drw_i (sd := a1) (N := s.2 6 2) (k := x10) (by omega) (by omega) hN2 (by omega) rfl)
  (try simp only [hd1, hdi] at *)
  (try have hy := GO_at hq hdb.1 hdb.2)
  (try (have y1 := hy.2.1.1; have y2 := hy.1.2.1; have y3 := hy.2.1.2; have y4 := hy.1.2.2))
  (try (clear hy; simp only [y1, y2] at *))
  (try have hs := sumI_s (newK (fun k => hm (nx (s.2 6) (s.2 7)) (drwI a1 (s.2 6 2) k))) (k := x10) (by omega))
  (try have hsb := sumI_b (f := newK (fun k => hm (nx (s.2 6) (s.2 7)) (drwI a1 (s.2 6 2) k))) x10.toNat (fun i _ _ => newK_01 _ _))
  (try have hn : (f17 (hm (nx (s.2 6) (s.2 7)) (drwI a1 (s.2 6 2) x10)) = 0 → newK (fun k => hm (nx (s.2 6) (s.2 7)) (drwI a1 (s.2 6 2) k)) x10 = 1) ∧ (¬ f17 (hm (nx (s.2 6) (s.2 7)) (drwI a1 (s.2 6 2) x10)) = 0 → newK (fun k => hm (nx (s.2 6) (s.2 7)) (drwI a1 (s.2 6 2) k)) x10 = 0) := MT_new hI.2.2.2.2.2.1 y3)
  (try have hm1 : maxI 0 (fun k => tl (nx (s.2 6) (s.2 7)) (drwI a1 (s.2 6 2) k)) x10.toNat < tl (nx (s.2 6) (s.2 7)) (drwI a1 (s.2 6 2) x10) → maxI 0 (fun k => tl (nx (s.2 6) (s.2 7)) (drwI a1 (s.2 6 2) k)) (x10 + 1).toNat = tl (nx (s.2 6) (s.2 7)) (drwI a1 (s.2 6 2) x10) := max_hit (by omega))
  (try have hm2 : ¬ maxI 0 (fun k => tl (nx (s.2 6) (s.2 7)) (drwI a1 (s.2 6 2) k)) x10.toNat < tl (nx (s.2 6) (s.2 7)) (drwI a1 (s.2 6 2) x10) → maxI 0 (fun k => tl (nx (s.2 6) (s.2 7)) (drwI a1 (s.2 6 2) k)) (x10 + 1).toNat = maxI 0 (fun k => tl (nx (s.2 6) (s.2 7)) (drwI a1 (s.2 6 2) k)) x10.toNat := max_not (by omega))
  (try have hb := many_b (fun k => hm (nx (s.2 6) (s.2 7)) (drwI a1 (s.2 6 2) k) = hm (nx (s.2 6) (s.2 7)) (drwI a1 (s.2 6 2) 0)) x10.toNat)
  (try have hS1 : hm (nx (s.2 6) (s.2 7)) (drwI a1 (s.2 6 2) x10) = hm (nx (s.2 6) (s.2 7)) (drwI a1 (s.2 6 2) 0) → many (fun k => hm (nx (s.2 6) (s.2 7)) (drwI a1 (s.2 6 2) k) = hm (nx (s.2 6) (s.2 7)) (drwI a1 (s.2 6 2) 0)) (x10 + 1).toNat = many (fun k => hm (nx (s.2 6) (s.2 7)) (drwI a1 (s.2 6 2) k) = hm (nx (s.2 6) (s.2 7)) (drwI a1 (s.2 6 2) 0)) x10.toNat + 1 := fun h => many_t (by omega) h)
  (try have hS2 : ¬ hm (nx (s.2 6) (s.2 7)) (drwI a1 (s.2 6 2) x10) = hm (nx (s.2 6) (s.2 7)) (drwI a1 (s.2 6 2) 0) → many (fun k => hm (nx (s.2 6) (s.2 7)) (drwI a1 (s.2 6 2) k) = hm (nx (s.2 6) (s.2 7)) (drwI a1 (s.2 6 2) 0)) (x10 + 1).toNat = many (fun k => hm (nx (s.2 6) (s.2 7)) (drwI a1 (s.2 6 2) k) = hm (nx (s.2 6) (s.2 7)) (drwI a1 (s.2 6 2) 0)) x10.toNat := fun h => many_f (by omega) h)
  (try have hz : x10 = 0 → hm (nx (s.2 6) (s.2 7)) (drwI a1 (s.2 6 2) x10) = hm (nx (s.2 6) (s.2 7)) (drwI a1 (s.2 6 2) 0) := fun h => by rw [h])
  (try have h00 := (hm_b hg (drwI_b (sd := a1) (k := 0) hN2).1 (drwI_b (sd := a1) (k := 0) hN2).2).1)
  (try have hzz := hI.2.2.2.2.2.2.2.2.1)
  (try unfold lex3)
  (try simp only [bI_0, bI_n, Classical.not_not] at *)
  (try simp (disch := omega) only [i32_id] at *)
  first | done | omega | ((repeat' (with_reducible apply And.intro)) <;> first | assumption | rfl | omega | (exact hI.1) | (exact hI.2.1) | (exact hq) | (unfold rEvening; rw [if_neg (by omega)]) | (exact hI.2.2.1.1) | (exact MT_0 (fun z a b => hI.2.2.2.2 z a (by omega))) | (exact Or.inl ⟨rfl, rfl⟩) | (intro z h0 h1; omega) | (exact upto_s (p := fun z v => v = 0) hI.2.2.2.2 rfl) | (exact MT_s hI.2.2.2.2.2.1 (by omega)) | (unfold rEvening; rw [if_pos (by omega), if_pos (by omega), hI.2.2.2.2.2.2.1, show x10 = a2 by omega]) | (unfold rEvening; rw [if_pos (by omega), if_neg (by omega), if_pos (by omega), hI.2.2.2.2.2.2.2.1, show x10 = a2 by omega]) | (unfold rEvening; rw [if_pos (by omega), if_neg (by omega), if_neg (by omega), hI.2.2.2.2.2.2.2.2.2, show x10 = a2 by omega]) | grind [upI])
theorem vX3_evening_47 (s : MS) (a1 : Int) (a2 : Int) (a3 : Int) (hp : tOK (s.2 6) ∧ aOK (s.2 6) (s.2 7) ∧ lOK ((s.2 5) 0) (s.2 6)) (x2 : Int) (x3 : Int) (x4 : Int) (x6 : Int) (x7 : Int) (x8 : Int) (x9 : Int) (x10 : Int) (f11 : Int → Int) (f12 : Int → Int) (f13 : Int → Int) (f14 : Int → Int) (f15 : Int → Int) (f16 : Int → Int) (f17 : Int → Int) (f18 : Int → Int) (f19 : Int → Int) (k0 : Int) (k25 : Int) (k33 : Int) (k34 : Int) (hI : k0 = 0 ∧ GO (s.2 6) (s.2 7) f13 f14 f15 f16 ∧ (x2 = a2 ∧ x3 = a3 ∧ 0 < s.2 5 0 ∧ 0 ≤ a1 ∧ a1 ≤ 2000000000 ∧ 1 ≤ a2 ∧ a2 ≤ 100 ∧ 0 ≤ a3 ∧ a3 ≤ 2) ∧ (0 ≤ x10 ∧ x10 ≤ a2) ∧ x4 = drw a1 x10.toNat ∧ MT (fun k => hm (nx (s.2 6) (s.2 7)) (drwI a1 (s.2 6 2) k)) f17 (s.2 6 2) x10 ∧ x6 = sumI (newK (fun k => hm (nx (s.2 6) (s.2 7)) (drwI a1 (s.2 6 2) k))) x10.toNat ∧ x7 = maxI 0 (fun k => tl (nx (s.2 6) (s.2 7)) (drwI a1 (s.2 6 2) k)) x10.toNat ∧ ((x10 = 0 ∧ x8 = -1) ∨ (0 < x10 ∧ x8 = hm (nx (s.2 6) (s.2 7)) (drwI a1 (s.2 6 2) 0))) ∧ x9 = many (fun k => hm (nx (s.2 6) (s.2 7)) (drwI a1 (s.2 6 2) k) = hm (nx (s.2 6) (s.2 7)) (drwI a1 (s.2 6 2) 0)) x10.toNat) (c_1 : ¬ x2 ≤ x10) (o_4 : (s.2 6 2) ≠ 0) (c_5 : x8 = (-1)) (o_15 : (0 ≤ (i32 (i64 (Int.tmod (i64 (Int.tdiv (i64 (Int.tmod (i64 ((i64 (1103515245 * x4)) + 12345)) 2147483648)) 65536)) (s.2 6 2)))) ∧ (i32 (i64 (Int.tmod (i64 (Int.tdiv (i64 (Int.tmod (i64 ((i64 (1103515245 * x4)) + 12345)) 2147483648)) 65536)) (s.2 6 2)))) < 10000)) (o_16 : (0 ≤ (f15 (i32 (i64 (Int.tmod (i64 (Int.tdiv (i64 (Int.tmod (i64 ((i64 (1103515245 * x4)) + 12345)) 2147483648)) 65536)) (s.2 6 2))))) ∧ (f15 (i32 (i64 (Int.tmod (i64 (Int.tdiv (i64 (Int.tmod (i64 ((i64 (1103515245 * x4)) + 12345)) 2147483648)) 65536)) (s.2 6 2))))) < 10000)) (c_17 : (f17 (f15 (i32 (i64 (Int.tmod (i64 (Int.tdiv (i64 (Int.tmod (i64 ((i64 (1103515245 * x4)) + 12345)) 2147483648)) 65536)) (s.2 6 2)))))) = 0) (c_21 : ¬ (f14 (i32 (i64 (Int.tmod (i64 (Int.tdiv (i64 (Int.tmod (i64 ((i64 (1103515245 * x4)) + 12345)) 2147483648)) 65536)) (s.2 6 2))))) ≤ x7) (c_23 : (f15 (i32 (i64 (Int.tmod (i64 (Int.tdiv (i64 (Int.tmod (i64 ((i64 (1103515245 * x4)) + 12345)) 2147483648)) 65536)) (s.2 6 2))))) = (f15 (i32 (i64 (Int.tmod (i64 (Int.tdiv (i64 (Int.tmod (i64 ((i64 (1103515245 * x4)) + 12345)) 2147483648)) 65536)) (s.2 6 2)))))) : k0 = 0 ∧ GO (s.2 6) (s.2 7) f13 f14 f15 f16 ∧ (x2 = a2 ∧ x3 = a3 ∧ 0 < s.2 5 0 ∧ 0 ≤ a1 ∧ a1 ≤ 2000000000 ∧ 1 ≤ a2 ∧ a2 ≤ 100 ∧ 0 ≤ a3 ∧ a3 ≤ 2) ∧ (0 ≤ (i32 (x10 + 1)) ∧ (i32 (x10 + 1)) ≤ a2) ∧ (i64 (Int.tmod (i64 ((i64 (1103515245 * x4)) + 12345)) 2147483648)) = drw a1 (i32 (x10 + 1)).toNat ∧ MT (fun k => hm (nx (s.2 6) (s.2 7)) (drwI a1 (s.2 6 2) k)) (upI f17 (f15 (i32 (i64 (Int.tmod (i64 (Int.tdiv (i64 (Int.tmod (i64 ((i64 (1103515245 * x4)) + 12345)) 2147483648)) 65536)) (s.2 6 2))))) 1) (s.2 6 2) (i32 (x10 + 1)) ∧ (i32 (x6 + 1)) = sumI (newK (fun k => hm (nx (s.2 6) (s.2 7)) (drwI a1 (s.2 6 2) k))) (i32 (x10 + 1)).toNat ∧ (f14 (i32 (i64 (Int.tmod (i64 (Int.tdiv (i64 (Int.tmod (i64 ((i64 (1103515245 * x4)) + 12345)) 2147483648)) 65536)) (s.2 6 2))))) = maxI 0 (fun k => tl (nx (s.2 6) (s.2 7)) (drwI a1 (s.2 6 2) k)) (i32 (x10 + 1)).toNat ∧ (((i32 (x10 + 1)) = 0 ∧ (f15 (i32 (i64 (Int.tmod (i64 (Int.tdiv (i64 (Int.tmod (i64 ((i64 (1103515245 * x4)) + 12345)) 2147483648)) 65536)) (s.2 6 2))))) = -1) ∨ (0 < (i32 (x10 + 1)) ∧ (f15 (i32 (i64 (Int.tmod (i64 (Int.tdiv (i64 (Int.tmod (i64 ((i64 (1103515245 * x4)) + 12345)) 2147483648)) 65536)) (s.2 6 2))))) = hm (nx (s.2 6) (s.2 7)) (drwI a1 (s.2 6 2) 0))) ∧ (i32 (x9 + 1)) = many (fun k => hm (nx (s.2 6) (s.2 7)) (drwI a1 (s.2 6 2) k) = hm (nx (s.2 6) (s.2 7)) (drwI a1 (s.2 6 2) 0)) (i32 (x10 + 1)).toNat := by
  obtain ⟨ht, ha, hl⟩ := hp
  have hN := tOK_N ht
  have hg := nx_rng (s.2 6) (s.2 7)
  (try simp only [bI_0, bI_n, Classical.not_not] at *)
  (try have hq := ‹GO (s.2 6) (s.2 7) _ _ _ _›)
  (try have hq := hI.2.1)
  (try have hx := GO_at hq (x := a1) (by omega) (by omega))
  (try have hN2 : 0 < s.2 6 2 := lOK_N ht hl (by omega))
  (try have hdb := drwI_b (sd := a1) (k := x10) hN2)
  (try have hd1 := drw_s (sd := a1) (by omega) (by omega) (by omega) hI.2.2.2.2.1)
  (try have hdi := drw_i (sd := a1) (N := s.2 6 2) (k := x10) (by omega) (by omega) hN2 (by omega) rfl)
  (try simp only [hd1, hdi] at *)
  (try have hy := GO_at hq hdb.1 hdb.2)
  (try (have y1 := hy.2.1.1; have y2 := hy.1.2.1; have y3 := hy.2.1.2; have y4 := hy.1.2.2))
  (try (clear hy; simp only [y1, y2] at *))
  (try have hs := sumI_s (newK (fun k => hm (nx (s.2 6) (s.2 7)) (drwI a1 (s.2 6 2) k))) (k := x10) (by omega))
  (try have hsb := sumI_b (f := newK (fun k => hm (nx (s.2 6) (s.2 7)) (drwI a1 (s.2 6 2) k))) x10.toNat (fun i _ _ => newK_01 _ _))
  (try have hn : (f17 (hm (nx (s.2 6) (s.2 7)) (drwI a1 (s.2 6 2) x10)) = 0 → newK (fun k => hm (nx (s.2 6) (s.2 7)) (drwI a1 (s.2 6 2) k)) x10 = 1) ∧ (¬ f17 (hm (nx (s.2 6) (s.2 7)) (drwI a1 (s.2 6 2) x10)) = 0 → newK (fun k => hm (nx (s.2 6) (s.2 7)) (drwI a1 (s.2 6 2) k)) x10 = 0) := MT_new hI.2.2.2.2.2.1 y3)
  (try have hm1 : maxI 0 (fun k => tl (nx (s.2 6) (s.2 7)) (drwI a1 (s.2 6 2) k)) x10.toNat < tl (nx (s.2 6) (s.2 7)) (drwI a1 (s.2 6 2) x10) → maxI 0 (fun k => tl (nx (s.2 6) (s.2 7)) (drwI a1 (s.2 6 2) k)) (x10 + 1).toNat = tl (nx (s.2 6) (s.2 7)) (drwI a1 (s.2 6 2) x10) := max_hit (by omega))
  (try have hm2 : ¬ maxI 0 (fun k => tl (nx (s.2 6) (s.2 7)) (drwI a1 (s.2 6 2) k)) x10.toNat < tl (nx (s.2 6) (s.2 7)) (drwI a1 (s.2 6 2) x10) → maxI 0 (fun k => tl (nx (s.2 6) (s.2 7)) (drwI a1 (s.2 6 2) k)) (x10 + 1).toNat = maxI 0 (fun k => tl (nx (s.2 6) (s.2 7)) (drwI a1 (s.2 6 2) k)) x10.toNat := max_not (by omega))
  (try have hb := many_b (fun k => hm (nx (s.2 6) (s.2 7)) (drwI a1 (s.2 6 2) k) = hm (nx (s.2 6) (s.2 7)) (drwI a1 (s.2 6 2) 0)) x10.toNat)
  (try have hS1 : hm (nx (s.2 6) (s.2 7)) (drwI a1 (s.2 6 2) x10) = hm (nx (s.2 6) (s.2 7)) (drwI a1 (s.2 6 2) 0) → many (fun k => hm (nx (s.2 6) (s.2 7)) (drwI a1 (s.2 6 2) k) = hm (nx (s.2 6) (s.2 7)) (drwI a1 (s.2 6 2) 0)) (x10 + 1).toNat = many (fun k => hm (nx (s.2 6) (s.2 7)) (drwI a1 (s.2 6 2) k) = hm (nx (s.2 6) (s.2 7)) (drwI a1 (s.2 6 2) 0)) x10.toNat + 1 := fun h => many_t (by omega) h)
  (try have hS2 : ¬ hm (nx (s.2 6) (s.2 7)) (drwI a1 (s.2 6 2) x10) = hm (nx (s.2 6) (s.2 7)) (drwI a1 (s.2 6 2) 0) → many (fun k => hm (nx (s.2 6) (s.2 7)) (drwI a1 (s.2 6 2) k) = hm (nx (s.2 6) (s.2 7)) (drwI a1 (s.2 6 2) 0)) (x10 + 1).toNat = many (fun k => hm (nx (s.2 6) (s.2 7)) (drwI a1 (s.2 6 2) k) = hm (nx (s.2 6) (s.2 7)) (drwI a1 (s.2 6 2) 0)) x10.toNat := fun h => many_f (by omega) h)
  (try have hz : x10 = 0 → hm (nx (s.2 6) (s.2 7)) (drwI a1 (s.2 6 2) x10) = hm (nx (s.2 6) (s.2 7)) (drwI a1 (s.2 6 2) 0) := fun h => by rw [h])
  (try have h00 := (hm_b hg (drwI_b (sd := a1) (k := 0) hN2).1 (drwI_b (sd := a1) (k := 0) hN2).2).1)
  (try have hzz := hI.2.2.2.2.2.2.2.2.1)
  (try unfold lex3)
  (try simp only [bI_0, bI_n, Classical.not_not] at *)
  (try simp (disch := omega) only [i32_id] at *)
  first | done | omega | ((repeat' (with_reducible apply And.intro)) <;> first | assumption | rfl | omega | (exact hI.1) | (exact hI.2.1) | (exact hq) | (unfold rEvening; rw [if_neg (by omega)]) | (exact hI.2.2.1.1) | (exact MT_0 (fun z a b => hI.2.2.2.2 z a (by omega))) | (exact Or.inl ⟨rfl, rfl⟩) | (intro z h0 h1; omega) | (exact upto_s (p := fun z v => v = 0) hI.2.2.2.2 rfl) | (exact MT_s hI.2.2.2.2.2.1 (by omega)) | (unfold rEvening; rw [if_pos (by omega), if_pos (by omega), hI.2.2.2.2.2.2.1, show x10 = a2 by omega]) | (unfold rEvening; rw [if_pos (by omega), if_neg (by omega), if_pos (by omega), hI.2.2.2.2.2.2.2.1, show x10 = a2 by omega]) | (unfold rEvening; rw [if_pos (by omega), if_neg (by omega), if_neg (by omega), hI.2.2.2.2.2.2.2.2.2, show x10 = a2 by omega]) | grind [upI])
theorem vX3_evening_48 (s : MS) (a1 : Int) (a2 : Int) (a3 : Int) (hp : tOK (s.2 6) ∧ aOK (s.2 6) (s.2 7) ∧ lOK ((s.2 5) 0) (s.2 6)) (x2 : Int) (x3 : Int) (x4 : Int) (x6 : Int) (x7 : Int) (x8 : Int) (x9 : Int) (x10 : Int) (f11 : Int → Int) (f12 : Int → Int) (f13 : Int → Int) (f14 : Int → Int) (f15 : Int → Int) (f16 : Int → Int) (f17 : Int → Int) (f18 : Int → Int) (f19 : Int → Int) (k0 : Int) (k25 : Int) (k33 : Int) (k34 : Int) (hI : k0 = 0 ∧ GO (s.2 6) (s.2 7) f13 f14 f15 f16 ∧ (x2 = a2 ∧ x3 = a3 ∧ 0 < s.2 5 0 ∧ 0 ≤ a1 ∧ a1 ≤ 2000000000 ∧ 1 ≤ a2 ∧ a2 ≤ 100 ∧ 0 ≤ a3 ∧ a3 ≤ 2) ∧ (0 ≤ x10 ∧ x10 ≤ a2) ∧ x4 = drw a1 x10.toNat ∧ MT (fun k => hm (nx (s.2 6) (s.2 7)) (drwI a1 (s.2 6 2) k)) f17 (s.2 6 2) x10 ∧ x6 = sumI (newK (fun k => hm (nx (s.2 6) (s.2 7)) (drwI a1 (s.2 6 2) k))) x10.toNat ∧ x7 = maxI 0 (fun k => tl (nx (s.2 6) (s.2 7)) (drwI a1 (s.2 6 2) k)) x10.toNat ∧ ((x10 = 0 ∧ x8 = -1) ∨ (0 < x10 ∧ x8 = hm (nx (s.2 6) (s.2 7)) (drwI a1 (s.2 6 2) 0))) ∧ x9 = many (fun k => hm (nx (s.2 6) (s.2 7)) (drwI a1 (s.2 6 2) k) = hm (nx (s.2 6) (s.2 7)) (drwI a1 (s.2 6 2) 0)) x10.toNat) (c_1 : ¬ x2 ≤ x10) (o_4 : (s.2 6 2) ≠ 0) (c_5 : x8 = (-1)) (o_15 : (0 ≤ (i32 (i64 (Int.tmod (i64 (Int.tdiv (i64 (Int.tmod (i64 ((i64 (1103515245 * x4)) + 12345)) 2147483648)) 65536)) (s.2 6 2)))) ∧ (i32 (i64 (Int.tmod (i64 (Int.tdiv (i64 (Int.tmod (i64 ((i64 (1103515245 * x4)) + 12345)) 2147483648)) 65536)) (s.2 6 2)))) < 10000)) (o_16 : (0 ≤ (f15 (i32 (i64 (Int.tmod (i64 (Int.tdiv (i64 (Int.tmod (i64 ((i64 (1103515245 * x4)) + 12345)) 2147483648)) 65536)) (s.2 6 2))))) ∧ (f15 (i32 (i64 (Int.tmod (i64 (Int.tdiv (i64 (Int.tmod (i64 ((i64 (1103515245 * x4)) + 12345)) 2147483648)) 65536)) (s.2 6 2))))) < 10000)) (c_17 : (f17 (f15 (i32 (i64 (Int.tmod (i64 (Int.tdiv (i64 (Int.tmod (i64 ((i64 (1103515245 * x4)) + 12345)) 2147483648)) 65536)) (s.2 6 2)))))) = 0) (c_21 : ¬ (f14 (i32 (i64 (Int.tmod (i64 (Int.tdiv (i64 (Int.tmod (i64 ((i64 (1103515245 * x4)) + 12345)) 2147483648)) 65536)) (s.2 6 2))))) ≤ x7) (c_23 : (f15 (i32 (i64 (Int.tmod (i64 (Int.tdiv (i64 (Int.tmod (i64 ((i64 (1103515245 * x4)) + 12345)) 2147483648)) 65536)) (s.2 6 2))))) = (f15 (i32 (i64 (Int.tmod (i64 (Int.tdiv (i64 (Int.tmod (i64 ((i64 (1103515245 * x4)) + 12345)) 2147483648)) 65536)) (s.2 6 2)))))) : lex3 0 0 ((a2 - (i32 (x10 + 1))).toNat) 0 0 ((a2 - x10).toNat) := by
  obtain ⟨ht, ha, hl⟩ := hp
  have hN := tOK_N ht
  have hg := nx_rng (s.2 6) (s.2 7)
  (try simp only [bI_0, bI_n, Classical.not_not] at *)
  (try have hq := ‹GO (s.2 6) (s.2 7) _ _ _ _›)
  (try have hq := hI.2.1)
  (try have hx := GO_at hq (x := a1) (by omega) (by omega))
  (try have hN2 : 0 < s.2 6 2 := lOK_N ht hl (by omega))
  (try have hdb := drwI_b (sd := a1) (k := x10) hN2)
  (try have hd1 := drw_s (sd := a1) (by omega) (by omega) (by omega) hI.2.2.2.2.1)
  (try have hdi := drw_i (sd := a1) (N := s.2 6 2) (k := x10) (by omega) (by omega) hN2 (by omega) rfl)
  (try simp only [hd1, hdi] at *)
  (try have hy := GO_at hq hdb.1 hdb.2)
  (try (have y1 := hy.2.1.1; have y2 := hy.1.2.1; have y3 := hy.2.1.2; have y4 := hy.1.2.2))
  (try (clear hy; simp only [y1, y2] at *))
  (try have hs := sumI_s (newK (fun k => hm (nx (s.2 6) (s.2 7)) (drwI a1 (s.2 6 2) k))) (k := x10) (by omega))
  (try have hsb := sumI_b (f := newK (fun k => hm (nx (s.2 6) (s.2 7)) (drwI a1 (s.2 6 2) k))) x10.toNat (fun i _ _ => newK_01 _ _))
  (try have hn : (f17 (hm (nx (s.2 6) (s.2 7)) (drwI a1 (s.2 6 2) x10)) = 0 → newK (fun k => hm (nx (s.2 6) (s.2 7)) (drwI a1 (s.2 6 2) k)) x10 = 1) ∧ (¬ f17 (hm (nx (s.2 6) (s.2 7)) (drwI a1 (s.2 6 2) x10)) = 0 → newK (fun k => hm (nx (s.2 6) (s.2 7)) (drwI a1 (s.2 6 2) k)) x10 = 0) := MT_new hI.2.2.2.2.2.1 y3)
  (try have hm1 : maxI 0 (fun k => tl (nx (s.2 6) (s.2 7)) (drwI a1 (s.2 6 2) k)) x10.toNat < tl (nx (s.2 6) (s.2 7)) (drwI a1 (s.2 6 2) x10) → maxI 0 (fun k => tl (nx (s.2 6) (s.2 7)) (drwI a1 (s.2 6 2) k)) (x10 + 1).toNat = tl (nx (s.2 6) (s.2 7)) (drwI a1 (s.2 6 2) x10) := max_hit (by omega))
  (try have hm2 : ¬ maxI 0 (fun k => tl (nx (s.2 6) (s.2 7)) (drwI a1 (s.2 6 2) k)) x10.toNat < tl (nx (s.2 6) (s.2 7)) (drwI a1 (s.2 6 2) x10) → maxI 0 (fun k => tl (nx (s.2 6) (s.2 7)) (drwI a1 (s.2 6 2) k)) (x10 + 1).toNat = maxI 0 (fun k => tl (nx (s.2 6) (s.2 7)) (drwI a1 (s.2 6 2) k)) x10.toNat := max_not (by omega))
  (try have hb := many_b (fun k => hm (nx (s.2 6) (s.2 7)) (drwI a1 (s.2 6 2) k) = hm (nx (s.2 6) (s.2 7)) (drwI a1 (s.2 6 2) 0)) x10.toNat)
  (try have hS1 : hm (nx (s.2 6) (s.2 7)) (drwI a1 (s.2 6 2) x10) = hm (nx (s.2 6) (s.2 7)) (drwI a1 (s.2 6 2) 0) → many (fun k => hm (nx (s.2 6) (s.2 7)) (drwI a1 (s.2 6 2) k) = hm (nx (s.2 6) (s.2 7)) (drwI a1 (s.2 6 2) 0)) (x10 + 1).toNat = many (fun k => hm (nx (s.2 6) (s.2 7)) (drwI a1 (s.2 6 2) k) = hm (nx (s.2 6) (s.2 7)) (drwI a1 (s.2 6 2) 0)) x10.toNat + 1 := fun h => many_t (by omega) h)
  (try have hS2 : ¬ hm (nx (s.2 6) (s.2 7)) (drwI a1 (s.2 6 2) x10) = hm (nx (s.2 6) (s.2 7)) (drwI a1 (s.2 6 2) 0) → many (fun k => hm (nx (s.2 6) (s.2 7)) (drwI a1 (s.2 6 2) k) = hm (nx (s.2 6) (s.2 7)) (drwI a1 (s.2 6 2) 0)) (x10 + 1).toNat = many (fun k => hm (nx (s.2 6) (s.2 7)) (drwI a1 (s.2 6 2) k) = hm (nx (s.2 6) (s.2 7)) (drwI a1 (s.2 6 2) 0)) x10.toNat := fun h => many_f (by omega) h)
  (try have hz : x10 = 0 → hm (nx (s.2 6) (s.2 7)) (drwI a1 (s.2 6 2) x10) = hm (nx (s.2 6) (s.2 7)) (drwI a1 (s.2 6 2) 0) := fun h => by rw [h])
  (try have h00 := (hm_b hg (drwI_b (sd := a1) (k := 0) hN2).1 (drwI_b (sd := a1) (k := 0) hN2).2).1)
  (try have hzz := hI.2.2.2.2.2.2.2.2.1)
  (try unfold lex3)
  (try simp only [bI_0, bI_n, Classical.not_not] at *)
  (try simp (disch := omega) only [i32_id] at *)
  first | done | omega | ((repeat' (with_reducible apply And.intro)) <;> first | assumption | rfl | omega | (exact hI.1) | (exact hI.2.1) | (exact hq) | (unfold rEvening; rw [if_neg (by omega)]) | (exact hI.2.2.1.1) | (exact MT_0 (fun z a b => hI.2.2.2.2 z a (by omega))) | (exact Or.inl ⟨rfl, rfl⟩) | (intro z h0 h1; omega) | (exact upto_s (p := fun z v => v = 0) hI.2.2.2.2 rfl) | (exact MT_s hI.2.2.2.2.2.1 (by omega)) | (unfold rEvening; rw [if_pos (by omega), if_pos (by omega), hI.2.2.2.2.2.2.1, show x10 = a2 by omega]) | (unfold rEvening; rw [if_pos (by omega), if_neg (by omega), if_pos (by omega), hI.2.2.2.2.2.2.2.1, show x10 = a2 by omega]) | (unfold rEvening; rw [if_pos (by omega), if_neg (by omega), if_neg (by omega), hI.2.2.2.2.2.2.2.2.2, show x10 = a2 by omega]) | grind [upI])
theorem vX3_evening_49 (s : MS) (a1 : Int) (a2 : Int) (a3 : Int) (hp : tOK (s.2 6) ∧ aOK (s.2 6) (s.2 7) ∧ lOK ((s.2 5) 0) (s.2 6)) (c_2 : (bI (0 < (s.2 5) 0)) = 0) : (-2) = (rEvening ((s.2 5) 0) (s.2 6) (s.2 7) a1 a2 a3) := by
  obtain ⟨ht, ha, hl⟩ := hp
  have hN := tOK_N ht
  have hg := nx_rng (s.2 6) (s.2 7)
  (try simp only [bI_0, bI_n, Classical.not_not] at *)
  (try have hq := ‹GO (s.2 6) (s.2 7) _ _ _ _›)
  (try have hq := hI.2.1)
  (try have hx := GO_at hq (x := a1) (by omega) (by omega))
  (try have hN2 : 0 < s.2 6 2 := lOK_N ht hl (by omega))
  (try have hdb := drwI_b (sd := a1) (k := x10) hN2)
  (try have hd1 := drw_s (sd := a1) (by omega) (by omega) (by omega) hI.2.2.2.2.1)
  (try have hdi := drw_i (sd := a1) (N := s.2 6 2) (k := x10) (by omega) (by omega) hN2 (by omega) rfl)
  (try simp only [hd1, hdi] at *)
  (try have hy := GO_at hq hdb.1 hdb.2)
  (try (have y1 := hy.2.1.1; have y2 := hy.1.2.1; have y3 := hy.2.1.2; have y4 := hy.1.2.2))
  (try (clear hy; simp only [y1, y2] at *))
  (try have hs := sumI_s (newK (fun k => hm (nx (s.2 6) (s.2 7)) (drwI a1 (s.2 6 2) k))) (k := x10) (by omega))
  (try have hsb := sumI_b (f := newK (fun k => hm (nx (s.2 6) (s.2 7)) (drwI a1 (s.2 6 2) k))) x10.toNat (fun i _ _ => newK_01 _ _))
  (try have hn : (f17 (hm (nx (s.2 6) (s.2 7)) (drwI a1 (s.2 6 2) x10)) = 0 → newK (fun k => hm (nx (s.2 6) (s.2 7)) (drwI a1 (s.2 6 2) k)) x10 = 1) ∧ (¬ f17 (hm (nx (s.2 6) (s.2 7)) (drwI a1 (s.2 6 2) x10)) = 0 → newK (fun k => hm (nx (s.2 6) (s.2 7)) (drwI a1 (s.2 6 2) k)) x10 = 0) := MT_new hI.2.2.2.2.2.1 y3)
  (try have hm1 : maxI 0 (fun k => tl (nx (s.2 6) (s.2 7)) (drwI a1 (s.2 6 2) k)) x10.toNat < tl (nx (s.2 6) (s.2 7)) (drwI a1 (s.2 6 2) x10) → maxI 0 (fun k => tl (nx (s.2 6) (s.2 7)) (drwI a1 (s.2 6 2) k)) (x10 + 1).toNat = tl (nx (s.2 6) (s.2 7)) (drwI a1 (s.2 6 2) x10) := max_hit (by omega))
  (try have hm2 : ¬ maxI 0 (fun k => tl (nx (s.2 6) (s.2 7)) (drwI a1 (s.2 6 2) k)) x10.toNat < tl (nx (s.2 6) (s.2 7)) (drwI a1 (s.2 6 2) x10) → maxI 0 (fun k => tl (nx (s.2 6) (s.2 7)) (drwI a1 (s.2 6 2) k)) (x10 + 1).toNat = maxI 0 (fun k => tl (nx (s.2 6) (s.2 7)) (drwI a1 (s.2 6 2) k)) x10.toNat := max_not (by omega))
  (try have hb := many_b (fun k => hm (nx (s.2 6) (s.2 7)) (drwI a1 (s.2 6 2) k) = hm (nx (s.2 6) (s.2 7)) (drwI a1 (s.2 6 2) 0)) x10.toNat)
  (try have hS1 : hm (nx (s.2 6) (s.2 7)) (drwI a1 (s.2 6 2) x10) = hm (nx (s.2 6) (s.2 7)) (drwI a1 (s.2 6 2) 0) → many (fun k => hm (nx (s.2 6) (s.2 7)) (drwI a1 (s.2 6 2) k) = hm (nx (s.2 6) (s.2 7)) (drwI a1 (s.2 6 2) 0)) (x10 + 1).toNat = many (fun k => hm (nx (s.2 6) (s.2 7)) (drwI a1 (s.2 6 2) k) = hm (nx (s.2 6) (s.2 7)) (drwI a1 (s.2 6 2) 0)) x10.toNat + 1 := fun h => many_t (by omega) h)
  (try have hS2 : ¬ hm (nx (s.2 6) (s.2 7)) (drwI a1 (s.2 6 2) x10) = hm (nx (s.2 6) (s.2 7)) (drwI a1 (s.2 6 2) 0) → many (fun k => hm (nx (s.2 6) (s.2 7)) (drwI a1 (s.2 6 2) k) = hm (nx (s.2 6) (s.2 7)) (drwI a1 (s.2 6 2) 0)) (x10 + 1).toNat = many (fun k => hm (nx (s.2 6) (s.2 7)) (drwI a1 (s.2 6 2) k) = hm (nx (s.2 6) (s.2 7)) (drwI a1 (s.2 6 2) 0)) x10.toNat := fun h => many_f (by omega) h)
  (try have hz : x10 = 0 → hm (nx (s.2 6) (s.2 7)) (drwI a1 (s.2 6 2) x10) = hm (nx (s.2 6) (s.2 7)) (drwI a1 (s.2 6 2) 0) := fun h => by rw [h])
  (try have h00 := (hm_b hg (drwI_b (sd := a1) (k := 0) hN2).1 (drwI_b (sd := a1) (k := 0) hN2).2).1)
  (try have hzz := hI.2.2.2.2.2.2.2.2.1)
  (try unfold lex3)
  (try simp only [bI_0, bI_n, Classical.not_not] at *)
  (try simp (disch := omega) only [i32_id] at *)
  first | done | omega | ((repeat' (with_reducible apply And.intro)) <;> first | assumption | rfl | omega | (exact hI.1) | (exact hI.2.1) | (exact hq) | (unfold rEvening; rw [if_neg (by omega)]) | (exact hI.2.2.1.1) | (exact MT_0 (fun z a b => hI.2.2.2.2 z a (by omega))) | (exact Or.inl ⟨rfl, rfl⟩) | (intro z h0 h1; omega) | (exact upto_s (p := fun z v => v = 0) hI.2.2.2.2 rfl) | (exact MT_s hI.2.2.2.2.2.1 (by omega)) | (unfold rEvening; rw [if_pos (by omega), if_pos (by omega), hI.2.2.2.2.2.2.1, show x10 = a2 by omega]) | (unfold rEvening; rw [if_pos (by omega), if_neg (by omega), if_pos (by omega), hI.2.2.2.2.2.2.2.1, show x10 = a2 by omega]) | (unfold rEvening; rw [if_pos (by omega), if_neg (by omega), if_neg (by omega), hI.2.2.2.2.2.2.2.2.2, show x10 = a2 by omega]) | grind [upI])
theorem vX3_evening_50 (s : MS) (a1 : Int) (a2 : Int) (a3 : Int) (hp : tOK (s.2 6) ∧ aOK (s.2 6) (s.2 7) ∧ lOK ((s.2 5) 0) (s.2 6)) (c_2 : ¬ (bI (0 < (s.2 5) 0)) = 0) (c_4 : (bI ((0 : Int) ≤ a1 ∧ a1 ≤ (2000000000 : Int))) = 0) : (-2) = (rEvening ((s.2 5) 0) (s.2 6) (s.2 7) a1 a2 a3) := by
  obtain ⟨ht, ha, hl⟩ := hp
  have hN := tOK_N ht
  have hg := nx_rng (s.2 6) (s.2 7)
  (try simp only [bI_0, bI_n, Classical.not_not] at *)
  (try have hq := ‹GO (s.2 6) (s.2 7) _ _ _ _›)
  (try have hq := hI.2.1)
  (try have hx := GO_at hq (x := a1) (by omega) (by omega))
  (try have hN2 : 0 < s.2 6 2 := lOK_N ht hl (by omega))
  (try have hdb := drwI_b (sd := a1) (k := x10) hN2)
  (try have hd1 := drw_s (sd := a1) (by omega) (by omega) (by omega) hI.2.2.2.2.1)
  (try have hdi := drw_i (sd := a1) (N := s.2 6 2) (k := x10) (by omega) (by omega) hN2 (by omega) rfl)
  (try simp only [hd1, hdi] at *)
  (try have hy := GO_at hq hdb.1 hdb.2)
  (try (have y1 := hy.2.1.1; have y2 := hy.1.2.1; have y3 := hy.2.1.2; have y4 := hy.1.2.2))
  (try (clear hy; simp only [y1, y2] at *))
  (try have hs := sumI_s (newK (fun k => hm (nx (s.2 6) (s.2 7)) (drwI a1 (s.2 6 2) k))) (k := x10) (by omega))
  (try have hsb := sumI_b (f := newK (fun k => hm (nx (s.2 6) (s.2 7)) (drwI a1 (s.2 6 2) k))) x10.toNat (fun i _ _ => newK_01 _ _))
  (try have hn : (f17 (hm (nx (s.2 6) (s.2 7)) (drwI a1 (s.2 6 2) x10)) = 0 → newK (fun k => hm (nx (s.2 6) (s.2 7)) (drwI a1 (s.2 6 2) k)) x10 = 1) ∧ (¬ f17 (hm (nx (s.2 6) (s.2 7)) (drwI a1 (s.2 6 2) x10)) = 0 → newK (fun k => hm (nx (s.2 6) (s.2 7)) (drwI a1 (s.2 6 2) k)) x10 = 0) := MT_new hI.2.2.2.2.2.1 y3)
  (try have hm1 : maxI 0 (fun k => tl (nx (s.2 6) (s.2 7)) (drwI a1 (s.2 6 2) k)) x10.toNat < tl (nx (s.2 6) (s.2 7)) (drwI a1 (s.2 6 2) x10) → maxI 0 (fun k => tl (nx (s.2 6) (s.2 7)) (drwI a1 (s.2 6 2) k)) (x10 + 1).toNat = tl (nx (s.2 6) (s.2 7)) (drwI a1 (s.2 6 2) x10) := max_hit (by omega))
  (try have hm2 : ¬ maxI 0 (fun k => tl (nx (s.2 6) (s.2 7)) (drwI a1 (s.2 6 2) k)) x10.toNat < tl (nx (s.2 6) (s.2 7)) (drwI a1 (s.2 6 2) x10) → maxI 0 (fun k => tl (nx (s.2 6) (s.2 7)) (drwI a1 (s.2 6 2) k)) (x10 + 1).toNat = maxI 0 (fun k => tl (nx (s.2 6) (s.2 7)) (drwI a1 (s.2 6 2) k)) x10.toNat := max_not (by omega))
  (try have hb := many_b (fun k => hm (nx (s.2 6) (s.2 7)) (drwI a1 (s.2 6 2) k) = hm (nx (s.2 6) (s.2 7)) (drwI a1 (s.2 6 2) 0)) x10.toNat)
  (try have hS1 : hm (nx (s.2 6) (s.2 7)) (drwI a1 (s.2 6 2) x10) = hm (nx (s.2 6) (s.2 7)) (drwI a1 (s.2 6 2) 0) → many (fun k => hm (nx (s.2 6) (s.2 7)) (drwI a1 (s.2 6 2) k) = hm (nx (s.2 6) (s.2 7)) (drwI a1 (s.2 6 2) 0)) (x10 + 1).toNat = many (fun k => hm (nx (s.2 6) (s.2 7)) (drwI a1 (s.2 6 2) k) = hm (nx (s.2 6) (s.2 7)) (drwI a1 (s.2 6 2) 0)) x10.toNat + 1 := fun h => many_t (by omega) h)
  (try have hS2 : ¬ hm (nx (s.2 6) (s.2 7)) (drwI a1 (s.2 6 2) x10) = hm (nx (s.2 6) (s.2 7)) (drwI a1 (s.2 6 2) 0) → many (fun k => hm (nx (s.2 6) (s.2 7)) (drwI a1 (s.2 6 2) k) = hm (nx (s.2 6) (s.2 7)) (drwI a1 (s.2 6 2) 0)) (x10 + 1).toNat = many (fun k => hm (nx (s.2 6) (s.2 7)) (drwI a1 (s.2 6 2) k) = hm (nx (s.2 6) (s.2 7)) (drwI a1 (s.2 6 2) 0)) x10.toNat := fun h => many_f (by omega) h)
  (try have hz : x10 = 0 → hm (nx (s.2 6) (s.2 7)) (drwI a1 (s.2 6 2) x10) = hm (nx (s.2 6) (s.2 7)) (drwI a1 (s.2 6 2) 0) := fun h => by rw [h])
  (try have h00 := (hm_b hg (drwI_b (sd := a1) (k := 0) hN2).1 (drwI_b (sd := a1) (k := 0) hN2).2).1)
  (try have hzz := hI.2.2.2.2.2.2.2.2.1)
  (try unfold lex3)
  (try simp only [bI_0, bI_n, Classical.not_not] at *)
  (try simp (disch := omega) only [i32_id] at *)
  first | done | omega | ((repeat' (with_reducible apply And.intro)) <;> first | assumption | rfl | omega | (exact hI.1) | (exact hI.2.1) | (exact hq) | (unfold rEvening; rw [if_neg (by omega)]) | (exact hI.2.2.1.1) | (exact MT_0 (fun z a b => hI.2.2.2.2 z a (by omega))) | (exact Or.inl ⟨rfl, rfl⟩) | (intro z h0 h1; omega) | (exact upto_s (p := fun z v => v = 0) hI.2.2.2.2 rfl) | (exact MT_s hI.2.2.2.2.2.1 (by omega)) | (unfold rEvening; rw [if_pos (by omega), if_pos (by omega), hI.2.2.2.2.2.2.1, show x10 = a2 by omega]) | (unfold rEvening; rw [if_pos (by omega), if_neg (by omega), if_pos (by omega), hI.2.2.2.2.2.2.2.1, show x10 = a2 by omega]) | (unfold rEvening; rw [if_pos (by omega), if_neg (by omega), if_neg (by omega), hI.2.2.2.2.2.2.2.2.2, show x10 = a2 by omega]) | grind [upI])
theorem vX3_evening_51 (s : MS) (a1 : Int) (a2 : Int) (a3 : Int) (hp : tOK (s.2 6) ∧ aOK (s.2 6) (s.2 7) ∧ lOK ((s.2 5) 0) (s.2 6)) (c_2 : ¬ (bI (0 < (s.2 5) 0)) = 0) (c_4 : ¬ (bI ((0 : Int) ≤ a1 ∧ a1 ≤ (2000000000 : Int))) = 0) (c_6 : (bI ((1 : Int) ≤ a2 ∧ a2 ≤ (100 : Int))) = 0) : (-2) = (rEvening ((s.2 5) 0) (s.2 6) (s.2 7) a1 a2 a3) := by
  obtain ⟨ht, ha, hl⟩ := hp
  have hN := tOK_N ht
  have hg := nx_rng (s.2 6) (s.2 7)
  (try simp only [bI_0, bI_n, Classical.not_not] at *)
  (try have hq := ‹GO (s.2 6) (s.2 7) _ _ _ _›)
  (try have hq := hI.2.1)
  (try have hx := GO_at hq (x := a1) (by omega) (by omega))
  (try have hN2 : 0 < s.2 6 2 := lOK_N ht hl (by omega))
  (try have hdb := drwI_b (sd := a1) (k := x10) hN2)
  (try have hd1 := drw_s (sd := a1) (by omega) (by omega) (by omega) hI.2.2.2.2.1)
  (try have hdi := drw_i (sd := a1) (N := s.2 6 2) (k := x10) (by omega) (by omega) hN2 (by omega) rfl)
  (try simp only [hd1, hdi] at *)
  (try have hy := GO_at hq hdb.1 hdb.2)
  (try (have y1 := hy.2.1.1; have y2 := hy.1.2.1; have y3 := hy.2.1.2; have y4 := hy.1.2.2))
  (try (clear hy; simp only [y1, y2] at *))
  (try have hs := sumI_s (newK (fun k => hm (nx (s.2 6) (s.2 7)) (drwI a1 (s.2 6 2) k))) (k := x10) (by omega))
  (try have hsb := sumI_b (f := newK (fun k => hm (nx (s.2 6) (s.2 7)) (drwI a1 (s.2 6 2) k))) x10.toNat (fun i _ _ => newK_01 _ _))
  (try have hn : (f17 (hm (nx (s.2 6) (s.2 7)) (drwI a1 (s.2 6 2) x10)) = 0 → newK (fun k => hm (nx (s.2 6) (s.2 7)) (drwI a1 (s.2 6 2) k)) x10 = 1) ∧ (¬ f17 (hm (nx (s.2 6) (s.2 7)) (drwI a1 (s.2 6 2) x10)) = 0 → newK (fun k => hm (nx (s.2 6) (s.2 7)) (drwI a1 (s.2 6 2) k)) x10 = 0) := MT_new hI.2.2.2.2.2.1 y3)
  (try have hm1 : maxI 0 (fun k => tl (nx (s.2 6) (s.2 7)) (drwI a1 (s.2 6 2) k)) x10.toNat < tl (nx (s.2 6) (s.2 7)) (drwI a1 (s.2 6 2) x10) → maxI 0 (fun k => tl (nx (s.2 6) (s.2 7)) (drwI a1 (s.2 6 2) k)) (x10 + 1).toNat = tl (nx (s.2 6) (s.2 7)) (drwI a1 (s.2 6 2) x10) := max_hit (by omega))
  (try have hm2 : ¬ maxI 0 (fun k => tl (nx (s.2 6) (s.2 7)) (drwI a1 (s.2 6 2) k)) x10.toNat < tl (nx (s.2 6) (s.2 7)) (drwI a1 (s.2 6 2) x10) → maxI 0 (fun k => tl (nx (s.2 6) (s.2 7)) (drwI a1 (s.2 6 2) k)) (x10 + 1).toNat = maxI 0 (fun k => tl (nx (s.2 6) (s.2 7)) (drwI a1 (s.2 6 2) k)) x10.toNat := max_not (by omega))
  (try have hb := many_b (fun k => hm (nx (s.2 6) (s.2 7)) (drwI a1 (s.2 6 2) k) = hm (nx (s.2 6) (s.2 7)) (drwI a1 (s.2 6 2) 0)) x10.toNat)
  (try have hS1 : hm (nx (s.2 6) (s.2 7)) (drwI a1 (s.2 6 2) x10) = hm (nx (s.2 6) (s.2 7)) (drwI a1 (s.2 6 2) 0) → many (fun k => hm (nx (s.2 6) (s.2 7)) (drwI a1 (s.2 6 2) k) = hm (nx (s.2 6) (s.2 7)) (drwI a1 (s.2 6 2) 0)) (x10 + 1).toNat = many (fun k => hm (nx (s.2 6) (s.2 7)) (drwI a1 (s.2 6 2) k) = hm (nx (s.2 6) (s.2 7)) (drwI a1 (s.2 6 2) 0)) x10.toNat + 1 := fun h => many_t (by omega) h)
  (try have hS2 : ¬ hm (nx (s.2 6) (s.2 7)) (drwI a1 (s.2 6 2) x10) = hm (nx (s.2 6) (s.2 7)) (drwI a1 (s.2 6 2) 0) → many (fun k => hm (nx (s.2 6) (s.2 7)) (drwI a1 (s.2 6 2) k) = hm (nx (s.2 6) (s.2 7)) (drwI a1 (s.2 6 2) 0)) (x10 + 1).toNat = many (fun k => hm (nx (s.2 6) (s.2 7)) (drwI a1 (s.2 6 2) k) = hm (nx (s.2 6) (s.2 7)) (drwI a1 (s.2 6 2) 0)) x10.toNat := fun h => many_f (by omega) h)
  (try have hz : x10 = 0 → hm (nx (s.2 6) (s.2 7)) (drwI a1 (s.2 6 2) x10) = hm (nx (s.2 6) (s.2 7)) (drwI a1 (s.2 6 2) 0) := fun h => by rw [h])
  (try have h00 := (hm_b hg (drwI_b (sd := a1) (k := 0) hN2).1 (drwI_b (sd := a1) (k := 0) hN2).2).1)
  (try have hzz := hI.2.2.2.2.2.2.2.2.1)
  (try unfold lex3)
  (try simp only [bI_0, bI_n, Classical.not_not] at *)
  (try simp (disch := omega) only [i32_id] at *)
  first | done | omega | ((repeat' (with_reducible apply And.intro)) <;> first | assumption | rfl | omega | (exact hI.1) | (exact hI.2.1) | (exact hq) | (unfold rEvening; rw [if_neg (by omega)]) | (exact hI.2.2.1.1) | (exact MT_0 (fun z a b => hI.2.2.2.2 z a (by omega))) | (exact Or.inl ⟨rfl, rfl⟩) | (intro z h0 h1; omega) | (exact upto_s (p := fun z v => v = 0) hI.2.2.2.2 rfl) | (exact MT_s hI.2.2.2.2.2.1 (by omega)) | (unfold rEvening; rw [if_pos (by omega), if_pos (by omega), hI.2.2.2.2.2.2.1, show x10 = a2 by omega]) | (unfold rEvening; rw [if_pos (by omega), if_neg (by omega), if_pos (by omega), hI.2.2.2.2.2.2.2.1, show x10 = a2 by omega]) | (unfold rEvening; rw [if_pos (by omega), if_neg (by omega), if_neg (by omega), hI.2.2.2.2.2.2.2.2.2, show x10 = a2 by omega]) | grind [upI])
theorem vX3_evening_52 (s : MS) (a1 : Int) (a2 : Int) (a3 : Int) (hp : tOK (s.2 6) ∧ aOK (s.2 6) (s.2 7) ∧ lOK ((s.2 5) 0) (s.2 6)) (c_2 : ¬ (bI (0 < (s.2 5) 0)) = 0) (c_4 : ¬ (bI ((0 : Int) ≤ a1 ∧ a1 ≤ (2000000000 : Int))) = 0) (c_6 : ¬ (bI ((1 : Int) ≤ a2 ∧ a2 ≤ (100 : Int))) = 0) (c_8 : ¬ (bI ((0 : Int) ≤ a3 ∧ a3 ≤ (2 : Int))) = 0) : (tOK (s.2 6) ∧ aOK (s.2 6) (s.2 7)) := by
  obtain ⟨ht, ha, hl⟩ := hp
  have hN := tOK_N ht
  have hg := nx_rng (s.2 6) (s.2 7)
  (try simp only [bI_0, bI_n, Classical.not_not] at *)
  (try have hq := ‹GO (s.2 6) (s.2 7) _ _ _ _›)
  (try have hq := hI.2.1)
  (try have hx := GO_at hq (x := a1) (by omega) (by omega))
  (try have hN2 : 0 < s.2 6 2 := lOK_N ht hl (by omega))
  (try have hdb := drwI_b (sd := a1) (k := x10) hN2)
  (try have hd1 := drw_s (sd := a1) (by omega) (by omega) (by omega) hI.2.2.2.2.1)
  (try have hdi := drw_i (sd := a1) (N := s.2 6 2) (k := x10) (by omega) (by omega) hN2 (by omega) rfl)
  (try simp only [hd1, hdi] at *)
  (try have hy := GO_at hq hdb.1 hdb.2)
  (try (have y1 := hy.2.1.1; have y2 := hy.1.2.1; have y3 := hy.2.1.2; have y4 := hy.1.2.2))
  (try (clear hy; simp only [y1, y2] at *))
  (try have hs := sumI_s (newK (fun k => hm (nx (s.2 6) (s.2 7)) (drwI a1 (s.2 6 2) k))) (k := x10) (by omega))
  (try have hsb := sumI_b (f := newK (fun k => hm (nx (s.2 6) (s.2 7)) (drwI a1 (s.2 6 2) k))) x10.toNat (fun i _ _ => newK_01 _ _))
  (try have hn : (f17 (hm (nx (s.2 6) (s.2 7)) (drwI a1 (s.2 6 2) x10)) = 0 → newK (fun k => hm (nx (s.2 6) (s.2 7)) (drwI a1 (s.2 6 2) k)) x10 = 1) ∧ (¬ f17 (hm (nx (s.2 6) (s.2 7)) (drwI a1 (s.2 6 2) x10)) = 0 → newK (fun k => hm (nx (s.2 6) (s.2 7)) (drwI a1 (s.2 6 2) k)) x10 = 0) := MT_new hI.2.2.2.2.2.1 y3)
  (try have hm1 : maxI 0 (fun k => tl (nx (s.2 6) (s.2 7)) (drwI a1 (s.2 6 2) k)) x10.toNat < tl (nx (s.2 6) (s.2 7)) (drwI a1 (s.2 6 2) x10) → maxI 0 (fun k => tl (nx (s.2 6) (s.2 7)) (drwI a1 (s.2 6 2) k)) (x10 + 1).toNat = tl (nx (s.2 6) (s.2 7)) (drwI a1 (s.2 6 2) x10) := max_hit (by omega))
  (try have hm2 : ¬ maxI 0 (fun k => tl (nx (s.2 6) (s.2 7)) (drwI a1 (s.2 6 2) k)) x10.toNat < tl (nx (s.2 6) (s.2 7)) (drwI a1 (s.2 6 2) x10) → maxI 0 (fun k => tl (nx (s.2 6) (s.2 7)) (drwI a1 (s.2 6 2) k)) (x10 + 1).toNat = maxI 0 (fun k => tl (nx (s.2 6) (s.2 7)) (drwI a1 (s.2 6 2) k)) x10.toNat := max_not (by omega))
  (try have hb := many_b (fun k => hm (nx (s.2 6) (s.2 7)) (drwI a1 (s.2 6 2) k) = hm (nx (s.2 6) (s.2 7)) (drwI a1 (s.2 6 2) 0)) x10.toNat)
  (try have hS1 : hm (nx (s.2 6) (s.2 7)) (drwI a1 (s.2 6 2) x10) = hm (nx (s.2 6) (s.2 7)) (drwI a1 (s.2 6 2) 0) → many (fun k => hm (nx (s.2 6) (s.2 7)) (drwI a1 (s.2 6 2) k) = hm (nx (s.2 6) (s.2 7)) (drwI a1 (s.2 6 2) 0)) (x10 + 1).toNat = many (fun k => hm (nx (s.2 6) (s.2 7)) (drwI a1 (s.2 6 2) k) = hm (nx (s.2 6) (s.2 7)) (drwI a1 (s.2 6 2) 0)) x10.toNat + 1 := fun h => many_t (by omega) h)
  (try have hS2 : ¬ hm (nx (s.2 6) (s.2 7)) (drwI a1 (s.2 6 2) x10) = hm (nx (s.2 6) (s.2 7)) (drwI a1 (s.2 6 2) 0) → many (fun k => hm (nx (s.2 6) (s.2 7)) (drwI a1 (s.2 6 2) k) = hm (nx (s.2 6) (s.2 7)) (drwI a1 (s.2 6 2) 0)) (x10 + 1).toNat = many (fun k => hm (nx (s.2 6) (s.2 7)) (drwI a1 (s.2 6 2) k) = hm (nx (s.2 6) (s.2 7)) (drwI a1 (s.2 6 2) 0)) x10.toNat := fun h => many_f (by omega) h)
  (try have hz : x10 = 0 → hm (nx (s.2 6) (s.2 7)) (drwI a1 (s.2 6 2) x10) = hm (nx (s.2 6) (s.2 7)) (drwI a1 (s.2 6 2) 0) := fun h => by rw [h])
  (try have h00 := (hm_b hg (drwI_b (sd := a1) (k := 0) hN2).1 (drwI_b (sd := a1) (k := 0) hN2).2).1)
  (try have hzz := hI.2.2.2.2.2.2.2.2.1)
  (try unfold lex3)
  (try simp only [bI_0, bI_n, Classical.not_not] at *)
  (try simp (disch := omega) only [i32_id] at *)
  first | done | omega | ((repeat' (with_reducible apply And.intro)) <;> first | assumption | rfl | omega | (exact hI.1) | (exact hI.2.1) | (exact hq) | (unfold rEvening; rw [if_neg (by omega)]) | (exact hI.2.2.1.1) | (exact MT_0 (fun z a b => hI.2.2.2.2 z a (by omega))) | (exact Or.inl ⟨rfl, rfl⟩) | (intro z h0 h1; omega) | (exact upto_s (p := fun z v => v = 0) hI.2.2.2.2 rfl) | (exact MT_s hI.2.2.2.2.2.1 (by omega)) | (unfold rEvening; rw [if_pos (by omega), if_pos (by omega), hI.2.2.2.2.2.2.1, show x10 = a2 by omega]) | (unfold rEvening; rw [if_pos (by omega), if_neg (by omega), if_pos (by omega), hI.2.2.2.2.2.2.2.1, show x10 = a2 by omega]) | (unfold rEvening; rw [if_pos (by omega), if_neg (by omega), if_neg (by omega), hI.2.2.2.2.2.2.2.2.2, show x10 = a2 by omega]) | grind [upI])
theorem vX3_evening_53 (s : MS) (a1 : Int) (a2 : Int) (a3 : Int) (hp : tOK (s.2 6) ∧ aOK (s.2 6) (s.2 7) ∧ lOK ((s.2 5) 0) (s.2 6)) (c_2 : ¬ (bI (0 < (s.2 5) 0)) = 0) (c_4 : ¬ (bI ((0 : Int) ≤ a1 ∧ a1 ≤ (2000000000 : Int))) = 0) (c_6 : ¬ (bI ((1 : Int) ≤ a2 ∧ a2 ≤ (100 : Int))) = 0) (c_8 : ¬ (bI ((0 : Int) ≤ a3 ∧ a3 ≤ (2 : Int))) = 0) (o_9 : (tOK (s.2 6) ∧ aOK (s.2 6) (s.2 7))) (f_10 : Int → Int) (f_11 : Int → Int) (f_12 : Int → Int) (f_13 : Int → Int) (f_14 : Int → Int) (f_15 : Int → Int) (f_16 : Int → Int) (k_17 : Int) (q_18 : (GO (s.2 6) (s.2 7) f_12 f_13 f_14 f_15)) : (0 : Int) = 0 ∧ GO (s.2 6) (s.2 7) f_12 f_13 f_14 f_15 ∧ (a1 = a1 ∧ a2 = a2 ∧ a3 = a3 ∧ 0 < s.2 5 0 ∧ 0 ≤ a1 ∧ a1 ≤ 2000000000 ∧ 1 ≤ a2 ∧ a2 ≤ 100 ∧ 0 ≤ a3 ∧ a3 ≤ 2) ∧ (0 ≤ (0 : Int) ∧ (0 : Int) ≤ s.2 6 2) ∧ ∀ z : Int, 0 ≤ z → z < (0 : Int) → f_16 z = 0 := by
  obtain ⟨ht, ha, hl⟩ := hp
  have hN := tOK_N ht
  have hg := nx_rng (s.2 6) (s.2 7)
  (try simp only [bI_0, bI_n, Classical.not_not] at *)
  (try have hq := ‹GO (s.2 6) (s.2 7) _ _ _ _›)
  (try have hq := hI.2.1)
  (try have hx := GO_at hq (x := a1) (by omega) (by omega))
  (try have hN2 : 0 < s.2 6 2 := lOK_N ht hl (by omega))
  (try have hdb := drwI_b (sd := a1) (k := x10) hN2)
  (try have hd1 := drw_s (sd := a1) (by omega) (by omega) (by omega) hI.2.2.2.2.1)
  (try have hdi := drw_i (sd := a1) (N := s.2 6 2) (k := x10) (by omega) (by omega) hN2 (by omega) rfl)
  (try simp only [hd1, hdi] at *)
  (try have hy := GO_at hq hdb.1 hdb.2)
  (try (have y1 := hy.2.1.1; have y2 := hy.1.2.1; have y3 := hy.2.1.2; have y4 := hy.1.2.2))
  (try (clear hy; simp only [y1, y2] at *))
  (try have hs := sumI_s (newK (fun k => hm (nx (s.2 6) (s.2 7)) (drwI a1 (s.2 6 2) k))) (k := x10) (by omega))
  (try have hsb := sumI_b (f := newK (fun k => hm (nx (s.2 6) (s.2 7)) (drwI a1 (s.2 6 2) k))) x10.toNat (fun i _ _ => newK_01 _ _))
  (try have hn : (f17 (hm (nx (s.2 6) (s.2 7)) (drwI a1 (s.2 6 2) x10)) = 0 → newK (fun k => hm (nx (s.2 6) (s.2 7)) (drwI a1 (s.2 6 2) k)) x10 = 1) ∧ (¬ f17 (hm (nx (s.2 6) (s.2 7)) (drwI a1 (s.2 6 2) x10)) = 0 → newK (fun k => hm (nx (s.2 6) (s.2 7)) (drwI a1 (s.2 6 2) k)) x10 = 0) := MT_new hI.2.2.2.2.2.1 y3)
  (try have hm1 : maxI 0 (fun k => tl (nx (s.2 6) (s.2 7)) (drwI a1 (s.2 6 2) k)) x10.toNat < tl (nx (s.2 6) (s.2 7)) (drwI a1 (s.2 6 2) x10) → maxI 0 (fun k => tl (nx (s.2 6) (s.2 7)) (drwI a1 (s.2 6 2) k)) (x10 + 1).toNat = tl (nx (s.2 6) (s.2 7)) (drwI a1 (s.2 6 2) x10) := max_hit (by omega))
  (try have hm2 : ¬ maxI 0 (fun k => tl (nx (s.2 6) (s.2 7)) (drwI a1 (s.2 6 2) k)) x10.toNat < tl (nx (s.2 6) (s.2 7)) (drwI a1 (s.2 6 2) x10) → maxI 0 (fun k => tl (nx (s.2 6) (s.2 7)) (drwI a1 (s.2 6 2) k)) (x10 + 1).toNat = maxI 0 (fun k => tl (nx (s.2 6) (s.2 7)) (drwI a1 (s.2 6 2) k)) x10.toNat := max_not (by omega))
  (try have hb := many_b (fun k => hm (nx (s.2 6) (s.2 7)) (drwI a1 (s.2 6 2) k) = hm (nx (s.2 6) (s.2 7)) (drwI a1 (s.2 6 2) 0)) x10.toNat)
  (try have hS1 : hm (nx (s.2 6) (s.2 7)) (drwI a1 (s.2 6 2) x10) = hm (nx (s.2 6) (s.2 7)) (drwI a1 (s.2 6 2) 0) → many (fun k => hm (nx (s.2 6) (s.2 7)) (drwI a1 (s.2 6 2) k) = hm (nx (s.2 6) (s.2 7)) (drwI a1 (s.2 6 2) 0)) (x10 + 1).toNat = many (fun k => hm (nx (s.2 6) (s.2 7)) (drwI a1 (s.2 6 2) k) = hm (nx (s.2 6) (s.2 7)) (drwI a1 (s.2 6 2) 0)) x10.toNat + 1 := fun h => many_t (by omega) h)
  (try have hS2 : ¬ hm (nx (s.2 6) (s.2 7)) (drwI a1 (s.2 6 2) x10) = hm (nx (s.2 6) (s.2 7)) (drwI a1 (s.2 6 2) 0) → many (fun k => hm (nx (s.2 6) (s.2 7)) (drwI a1 (s.2 6 2) k) = hm (nx (s.2 6) (s.2 7)) (drwI a1 (s.2 6 2) 0)) (x10 + 1).toNat = many (fun k => hm (nx (s.2 6) (s.2 7)) (drwI a1 (s.2 6 2) k) = hm (nx (s.2 6) (s.2 7)) (drwI a1 (s.2 6 2) 0)) x10.toNat := fun h => many_f (by omega) h)
  (try have hz : x10 = 0 → hm (nx (s.2 6) (s.2 7)) (drwI a1 (s.2 6 2) x10) = hm (nx (s.2 6) (s.2 7)) (drwI a1 (s.2 6 2) 0) := fun h => by rw [h])
  (try have h00 := (hm_b hg (drwI_b (sd := a1) (k := 0) hN2).1 (drwI_b (sd := a1) (k := 0) hN2).2).1)
  (try have hzz := hI.2.2.2.2.2.2.2.2.1)
  (try unfold lex3)
  (try simp only [bI_0, bI_n, Classical.not_not] at *)
  (try simp (disch := omega) only [i32_id] at *)
  first | done | omega | ((repeat' (with_reducible apply And.intro)) <;> first | assumption | rfl | omega | (exact hI.1) | (exact hI.2.1) | (exact hq) | (unfold rEvening; rw [if_neg (by omega)]) | (exact hI.2.2.1.1) | (exact MT_0 (fun z a b => hI.2.2.2.2 z a (by omega))) | (exact Or.inl ⟨rfl, rfl⟩) | (intro z h0 h1; omega) | (exact upto_s (p := fun z v => v = 0) hI.2.2.2.2 rfl) | (exact MT_s hI.2.2.2.2.2.1 (by omega)) | (unfold rEvening; rw [if_pos (by omega), if_pos (by omega), hI.2.2.2.2.2.2.1, show x10 = a2 by omega]) | (unfold rEvening; rw [if_pos (by omega), if_neg (by omega), if_pos (by omega), hI.2.2.2.2.2.2.2.1, show x10 = a2 by omega]) | (unfold rEvening; rw [if_pos (by omega), if_neg (by omega), if_neg (by omega), hI.2.2.2.2.2.2.2.2.2, show x10 = a2 by omega]) | grind [upI])
theorem vX3_evening_54 (s : MS) (a1 : Int) (a2 : Int) (a3 : Int) (hp : tOK (s.2 6) ∧ aOK (s.2 6) (s.2 7) ∧ lOK ((s.2 5) 0) (s.2 6)) (c_2 : ¬ (bI (0 < (s.2 5) 0)) = 0) (c_4 : ¬ (bI ((0 : Int) ≤ a1 ∧ a1 ≤ (2000000000 : Int))) = 0) (c_6 : ¬ (bI ((1 : Int) ≤ a2 ∧ a2 ≤ (100 : Int))) = 0) (c_8 : (bI ((0 : Int) ≤ a3 ∧ a3 ≤ (2 : Int))) = 0) : (-2) = (rEvening ((s.2 5) 0) (s.2 6) (s.2 7) a1 a2 a3) := by
  obtain ⟨ht, ha, hl⟩ := hp
  have hN := tOK_N ht
  have hg := nx_rng (s.2 6) (s.2 7)
  (try simp only [bI_0, bI_n, Classical.not_not] at *)
  (try have hq := ‹GO (s.2 6) (s.2 7) _ _ _ _›)
  (try have hq := hI.2.1)
  (try have hx := GO_at hq (x := a1) (by omega) (by omega))
  (try have hN2 : 0 < s.2 6 2 := lOK_N ht hl (by omega))
  (try have hdb := drwI_b (sd := a1) (k := x10) hN2)
  (try have hd1 := drw_s (sd := a1) (by omega) (by omega) (by omega) hI.2.2.2.2.1)
  (try have hdi := drw_i (sd := a1) (N := s.2 6 2) (k := x10) (by omega) (by omega) hN2 (by omega) rfl)
  (try simp only [hd1, hdi] at *)
  (try have hy := GO_at hq hdb.1 hdb.2)
  (try (have y1 := hy.2.1.1; have y2 := hy.1.2.1; have y3 := hy.2.1.2; have y4 := hy.1.2.2))
  (try (clear hy; simp only [y1, y2] at *))
  (try have hs := sumI_s (newK (fun k => hm (nx (s.2 6) (s.2 7)) (drwI a1 (s.2 6 2) k))) (k := x10) (by omega))
  (try have hsb := sumI_b (f := newK (fun k => hm (nx (s.2 6) (s.2 7)) (drwI a1 (s.2 6 2) k))) x10.toNat (fun i _ _ => newK_01 _ _))
  (try have hn : (f17 (hm (nx (s.2 6) (s.2 7)) (drwI a1 (s.2 6 2) x10)) = 0 → newK (fun k => hm (nx (s.2 6) (s.2 7)) (drwI a1 (s.2 6 2) k)) x10 = 1) ∧ (¬ f17 (hm (nx (s.2 6) (s.2 7)) (drwI a1 (s.2 6 2) x10)) = 0 → newK (fun k => hm (nx (s.2 6) (s.2 7)) (drwI a1 (s.2 6 2) k)) x10 = 0) := MT_new hI.2.2.2.2.2.1 y3)
  (try have hm1 : maxI 0 (fun k => tl (nx (s.2 6) (s.2 7)) (drwI a1 (s.2 6 2) k)) x10.toNat < tl (nx (s.2 6) (s.2 7)) (drwI a1 (s.2 6 2) x10) → maxI 0 (fun k => tl (nx (s.2 6) (s.2 7)) (drwI a1 (s.2 6 2) k)) (x10 + 1).toNat = tl (nx (s.2 6) (s.2 7)) (drwI a1 (s.2 6 2) x10) := max_hit (by omega))
  (try have hm2 : ¬ maxI 0 (fun k => tl (nx (s.2 6) (s.2 7)) (drwI a1 (s.2 6 2) k)) x10.toNat < tl (nx (s.2 6) (s.2 7)) (drwI a1 (s.2 6 2) x10) → maxI 0 (fun k => tl (nx (s.2 6) (s.2 7)) (drwI a1 (s.2 6 2) k)) (x10 + 1).toNat = maxI 0 (fun k => tl (nx (s.2 6) (s.2 7)) (drwI a1 (s.2 6 2) k)) x10.toNat := max_not (by omega))
  (try have hb := many_b (fun k => hm (nx (s.2 6) (s.2 7)) (drwI a1 (s.2 6 2) k) = hm (nx (s.2 6) (s.2 7)) (drwI a1 (s.2 6 2) 0)) x10.toNat)
  (try have hS1 : hm (nx (s.2 6) (s.2 7)) (drwI a1 (s.2 6 2) x10) = hm (nx (s.2 6) (s.2 7)) (drwI a1 (s.2 6 2) 0) → many (fun k => hm (nx (s.2 6) (s.2 7)) (drwI a1 (s.2 6 2) k) = hm (nx (s.2 6) (s.2 7)) (drwI a1 (s.2 6 2) 0)) (x10 + 1).toNat = many (fun k => hm (nx (s.2 6) (s.2 7)) (drwI a1 (s.2 6 2) k) = hm (nx (s.2 6) (s.2 7)) (drwI a1 (s.2 6 2) 0)) x10.toNat + 1 := fun h => many_t (by omega) h)
  (try have hS2 : ¬ hm (nx (s.2 6) (s.2 7)) (drwI a1 (s.2 6 2) x10) = hm (nx (s.2 6) (s.2 7)) (drwI a1 (s.2 6 2) 0) → many (fun k => hm (nx (s.2 6) (s.2 7)) (drwI a1 (s.2 6 2) k) = hm (nx (s.2 6) (s.2 7)) (drwI a1 (s.2 6 2) 0)) (x10 + 1).toNat = many (fun k => hm (nx (s.2 6) (s.2 7)) (drwI a1 (s.2 6 2) k) = hm (nx (s.2 6) (s.2 7)) (drwI a1 (s.2 6 2) 0)) x10.toNat := fun h => many_f (by omega) h)
  (try have hz : x10 = 0 → hm (nx (s.2 6) (s.2 7)) (drwI a1 (s.2 6 2) x10) = hm (nx (s.2 6) (s.2 7)) (drwI a1 (s.2 6 2) 0) := fun h => by rw [h])
  (try have h00 := (hm_b hg (drwI_b (sd := a1) (k := 0) hN2).1 (drwI_b (sd := a1) (k := 0) hN2).2).1)
  (try have hzz := hI.2.2.2.2.2.2.2.2.1)
  (try unfold lex3)
  (try simp only [bI_0, bI_n, Classical.not_not] at *)
  (try simp (disch := omega) only [i32_id] at *)
  first | done | omega | ((repeat' (with_reducible apply And.intro)) <;> first | assumption | rfl | omega | (exact hI.1) | (exact hI.2.1) | (exact hq) | (unfold rEvening; rw [if_neg (by omega)]) | (exact hI.2.2.1.1) | (exact MT_0 (fun z a b => hI.2.2.2.2 z a (by omega))) | (exact Or.inl ⟨rfl, rfl⟩) | (intro z h0 h1; omega) | (exact upto_s (p := fun z v => v = 0) hI.2.2.2.2 rfl) | (exact MT_s hI.2.2.2.2.2.1 (by omega)) | (unfold rEvening; rw [if_pos (by omega), if_pos (by omega), hI.2.2.2.2.2.2.1, show x10 = a2 by omega]) | (unfold rEvening; rw [if_pos (by omega), if_neg (by omega), if_pos (by omega), hI.2.2.2.2.2.2.2.1, show x10 = a2 by omega]) | (unfold rEvening; rw [if_pos (by omega), if_neg (by omega), if_neg (by omega), hI.2.2.2.2.2.2.2.2.2, show x10 = a2 by omega]) | grind [upI])
theorem allX3_evening (b : AH) (s : MS) (a1 : Int) (a2 : Int) (a3 : Int) (hp : tOK (s.2 6) ∧ aOK (s.2 6) (s.2 7) ∧ lOK ((s.2 5) 0) (s.2 6)) : ∀ m1 m2 m3 : Nat, (∀ (x1 : Int) (x2 : Int) (x3 : Int) (x4 : Int) (f11 : Int → Int) (f12 : Int → Int) (f13 : Int → Int) (f14 : Int → Int) (f15 : Int → Int) (f16 : Int → Int) (f17 : Int → Int) (f18 : Int → Int) (f19 : Int → Int) (k0 : Int) (k25 : Int) (k33 : Int) (k34 : Int), m1 = 0 → m2 = 1 → m3 = ((s.2 6 2 - x4).toNat) → (k0 = 0 ∧ GO (s.2 6) (s.2 7) f13 f14 f15 f16 ∧ (x1 = a1 ∧ x2 = a2 ∧ x3 = a3 ∧ 0 < s.2 5 0 ∧ 0 ≤ a1 ∧ a1 ≤ 2000000000 ∧ 1 ≤ a2 ∧ a2 ≤ 100 ∧ 0 ≤ a3 ∧ a3 ≤ 2) ∧ (0 ≤ x4 ∧ x4 ≤ s.2 6 2) ∧ ∀ z : Int, 0 ≤ z → z < x4 → f17 z = 0) → HX3_evening_58 (QX3_evening s a1 a2 a3) b s x1 x2 x3 x4 f11 f12 f13 f14 f15 f16 f17 f18 f19 k0 k25 k33 k34) ∧ (∀ (x2 : Int) (x3 : Int) (x4 : Int) (x6 : Int) (x7 : Int) (x8 : Int) (x9 : Int) (x10 : Int) (f11 : Int → Int) (f12 : Int → Int) (f13 : Int → Int) (f14 : Int → Int) (f15 : Int → Int) (f16 : Int → Int) (f17 : Int → Int) (f18 : Int → Int) (f19 : Int → Int) (k0 : Int) (k25 : Int) (k33 : Int) (k34 : Int), m1 = 0 → m2 = 0 → m3 = ((a2 - x10).toNat) → (k0 = 0 ∧ GO (s.2 6) (s.2 7) f13 f14 f15 f16 ∧ (x2 = a2 ∧ x3 = a3 ∧ 0 < s.2 5 0 ∧ 0 ≤ a1 ∧ a1 ≤ 2000000000 ∧ 1 ≤ a2 ∧ a2 ≤ 100 ∧ 0 ≤ a3 ∧ a3 ≤ 2) ∧ (0 ≤ x10 ∧ x10 ≤ a2) ∧ x4 = drw a1 x10.toNat ∧ MT (fun k => hm (nx (s.2 6) (s.2 7)) (drwI a1 (s.2 6 2) k)) f17 (s.2 6 2) x10 ∧ x6 = sumI (newK (fun k => hm (nx (s.2 6) (s.2 7)) (drwI a1 (s.2 6 2) k))) x10.toNat ∧ x7 = maxI 0 (fun k => tl (nx (s.2 6) (s.2 7)) (drwI a1 (s.2 6 2) k)) x10.toNat ∧ ((x10 = 0 ∧ x8 = -1) ∨ (0 < x10 ∧ x8 = hm (nx (s.2 6) (s.2 7)) (drwI a1 (s.2 6 2) 0))) ∧ x9 = many (fun k => hm (nx (s.2 6) (s.2 7)) (drwI a1 (s.2 6 2) k) = hm (nx (s.2 6) (s.2 7)) (drwI a1 (s.2 6 2) 0)) x10.toNat) → HX3_evening_102 (QX3_evening s a1 a2 a3) b s x2 x3 x4 x6 x7 x8 x9 x10 f11 f12 f13 f14 f15 f16 f17 f18 f19 k0 k25 k33 k34) := by
  refine lex3_ind ?_
  intro m1 m2 m3 ih
  refine ⟨?_, ?_⟩
  · rintro x1 x2 x3 x4 f11 f12 f13 f14 f15 f16 f17 f18 f19 k0 k25 k33 k34 rfl rfl rfl hI
    refine bX3_evening_58 b s x1 x2 x3 x4 f11 f12 f13 f14 f15 f16 f17 f18 f19 k0 k25 k33 k34 ?_
    refine ⟨fun c_1 => ?_, fun c_1 => ?_⟩
    · exact (ih _ _ _ (vX3_evening_2 s a1 a2 a3 hp x1 x2 x3 x4 f11 f12 f13 f14 f15 f16 f17 f18 f19 k0 k25 k33 k34 hI c_1)).2 x2 x3 x1 0 0 (-1) 0 0 f11 f12 f13 f14 f15 f16 f17 f18 f19 k0 k25 k33 k34 rfl rfl rfl (vX3_evening_1 s a1 a2 a3 hp x1 x2 x3 x4 f11 f12 f13 f14 f15 f16 f17 f18 f19 k0 k25 k33 k34 hI c_1)
    · have o_2 : (0 ≤ x4 ∧ x4 < 10000) := (vX3_evening_3 s a1 a2 a3 hp x1 x2 x3 x4 f11 f12 f13 f14 f15 f16 f17 f18 f19 k0 k25 k33 k34 hI c_1)
      refine ⟨o_2, ?_⟩
      exact (ih _ _ _ (vX3_evening_5 s a1 a2 a3 hp x1 x2 x3 x4 f11 f12 f13 f14 f15 f16 f17 f18 f19 k0 k25 k33 k34 hI c_1 o_2)).1 x1 x2 x3 (i32 (x4 + 1)) f11 f12 f13 f14 f15 f16 (upI f17 x4 0) f18 f19 k0 k25 k33 k34 rfl rfl rfl (vX3_evening_4 s a1 a2 a3 hp x1 x2 x3 x4 f11 f12 f13 f14 f15 f16 f17 f18 f19 k0 k25 k33 k34 hI c_1 o_2)
  · rintro x2 x3 x4 x6 x7 x8 x9 x10 f11 f12 f13 f14 f15 f16 f17 f18 f19 k0 k25 k33 k34 rfl rfl rfl hI
    refine bX3_evening_102 b s x2 x3 x4 x6 x7 x8 x9 x10 f11 f12 f13 f14 f15 f16 f17 f18 f19 k0 k25 k33 k34 ?_
    refine ⟨fun c_1 => ?_, fun c_1 => ?_⟩
    · refine ⟨fun c_2 => ?_, fun c_2 => ?_⟩
      · refine ⟨fun c_3 => ?_, fun c_3 => ?_⟩
        · exact ⟨f11, f12, f13, f14, f15, f16, f17, f18, f19, k25, k33, k34, (rI_c (vX3_evening_7 s a1 a2 a3 hp x2 x3 x4 x6 x7 x8 x9 x10 f11 f12 f13 f14 f15 f16 f17 f18 f19 k0 k25 k33 k34 hI c_1 c_2 c_3)), (sS_c (sS_c (sS_c (sS_c (sA_c (sA_c (sA_c (sA_c (sA_c (sA_c (sA_c (sA_c (sA_c rfl rfl) rfl) rfl) rfl) rfl) rfl) rfl) rfl) rfl) (vX3_evening_6 s a1 a2 a3 hp x2 x3 x4 x6 x7 x8 x9 x10 f11 f12 f13 f14 f15 f16 f17 f18 f19 k0 k25 k33 k34 hI c_1 c_2 c_3)) rfl) rfl) rfl)⟩
        · exact ⟨f11, f12, f13, f14, f15, f16, f17, f18, f19, k25, k33, k34, (rI_c (vX3_evening_9 s a1 a2 a3 hp x2 x3 x4 x6 x7 x8 x9 x10 f11 f12 f13 f14 f15 f16 f17 f18 f19 k0 k25 k33 k34 hI c_1 c_2 c_3)), (sS_c (sS_c (sS_c (sS_c (sA_c (sA_c (sA_c (sA_c (sA_c (sA_c (sA_c (sA_c (sA_c rfl rfl) rfl) rfl) rfl) rfl) rfl) rfl) rfl) rfl) (vX3_evening_8 s a1 a2 a3 hp x2 x3 x4 x6 x7 x8 x9 x10 f11 f12 f13 f14 f15 f16 f17 f18 f19 k0 k25 k33 k34 hI c_1 c_2 c_3)) rfl) rfl) rfl)⟩
      · exact ⟨f11, f12, f13, f14, f15, f16, f17, f18, f19, k25, k33, k34, (rI_c (vX3_evening_11 s a1 a2 a3 hp x2 x3 x4 x6 x7 x8 x9 x10 f11 f12 f13 f14 f15 f16 f17 f18 f19 k0 k25 k33 k34 hI c_1 c_2)), (sS_c (sS_c (sS_c (sS_c (sA_c (sA_c (sA_c (sA_c (sA_c (sA_c (sA_c (sA_c (sA_c rfl rfl) rfl) rfl) rfl) rfl) rfl) rfl) rfl) rfl) (vX3_evening_10 s a1 a2 a3 hp x2 x3 x4 x6 x7 x8 x9 x10 f11 f12 f13 f14 f15 f16 f17 f18 f19 k0 k25 k33 k34 hI c_1 c_2)) rfl) rfl) rfl)⟩
    · have o_4 : (s.2 6 2) ≠ 0 := (vX3_evening_12 s a1 a2 a3 hp x2 x3 x4 x6 x7 x8 x9 x10 f11 f12 f13 f14 f15 f16 f17 f18 f19 k0 k25 k33 k34 hI c_1)
      refine ⟨o_4, ?_⟩
      refine ⟨fun c_5 => ?_, fun c_5 => ?_⟩
      · have o_6 : (0 ≤ (i32 (i64 (Int.tmod (i64 (Int.tdiv (i64 (Int.tmod (i64 ((i64 (1103515245 * x4)) + 12345)) 2147483648)) 65536)) (s.2 6 2)))) ∧ (i32 (i64 (Int.tmod (i64 (Int.tdiv (i64 (Int.tmod (i64 ((i64 (1103515245 * x4)) + 12345)) 2147483648)) 65536)) (s.2 6 2)))) < 10000) := (vX3_evening_13 s a1 a2 a3 hp x2 x3 x4 x6 x7 x8 x9 x10 f11 f12 f13 f14 f15 f16 f17 f18 f19 k0 k25 k33 k34 hI c_1 o_4 c_5)
        refine ⟨o_6, ?_⟩
        have o_7 : (0 ≤ (f15 (i32 (i64 (Int.tmod (i64 (Int.tdiv (i64 (Int.tmod (i64 ((i64 (1103515245 * x4)) + 12345)) 2147483648)) 65536)) (s.2 6 2))))) ∧ (f15 (i32 (i64 (Int.tmod (i64 (Int.tdiv (i64 (Int.tmod (i64 ((i64 (1103515245 * x4)) + 12345)) 2147483648)) 65536)) (s.2 6 2))))) < 10000) := (vX3_evening_14 s a1 a2 a3 hp x2 x3 x4 x6 x7 x8 x9 x10 f11 f12 f13 f14 f15 f16 f17 f18 f19 k0 k25 k33 k34 hI c_1 o_4 c_5 o_6)
        refine ⟨o_7, ?_⟩
        refine ⟨fun c_8 => ?_, fun c_8 => ?_⟩
        · refine ⟨fun c_9 => ?_, fun c_9 => ?_⟩
          · refine ⟨fun c_10 => ?_, fun c_10 => ?_⟩
            · exact (ih _ _ _ (vX3_evening_16 s a1 a2 a3 hp x2 x3 x4 x6 x7 x8 x9 x10 f11 f12 f13 f14 f15 f16 f17 f18 f19 k0 k25 k33 k34 hI c_1 o_4 c_5 o_6 o_7 c_8 c_9 c_10)).2 x2 x3 (i64 (Int.tmod (i64 ((i64 (1103515245 * x4)) + 12345)) 2147483648)) (i32 (x6 + 0)) x7 x8 (i32 (x9 + 0)) (i32 (x10 + 1)) f11 f12 f13 f14 f15 f16 (upI f17 (f15 (i32 (i64 (Int.tmod (i64 (Int.tdiv (i64 (Int.tmod (i64 ((i64 (1103515245 * x4)) + 12345)) 2147483648)) 65536)) (s.2 6 2))))) 1) f18 f19 k0 k25 k33 k34 rfl rfl rfl (vX3_evening_15 s a1 a2 a3 hp x2 x3 x4 x6 x7 x8 x9 x10 f11 f12 f13 f14 f15 f16 f17 f18 f19 k0 k25 k33 k34 hI c_1 o_4 c_5 o_6 o_7 c_8 c_9 c_10)
            · exact (ih _ _ _ (vX3_evening_18 s a1 a2 a3 hp x2 x3 x4 x6 x7 x8 x9 x10 f11 f12 f13 f14 f15 f16 f17 f18 f19 k0 k25 k33 k34 hI c_1 o_4 c_5 o_6 o_7 c_8 c_9 c_10)).2 x2 x3 (i64 (Int.tmod (i64 ((i64 (1103515245 * x4)) + 12345)) 2147483648)) (i32 (x6 + 0)) x7 x8 (i32 (x9 + 1)) (i32 (x10 + 1)) f11 f12 f13 f14 f15 f16 (upI f17 (f15 (i32 (i64 (Int.tmod (i64 (Int.tdiv (i64 (Int.tmod (i64 ((i64 (1103515245 * x4)) + 12345)) 2147483648)) 65536)) (s.2 6 2))))) 1) f18 f19 k0 k25 k33 k34 rfl rfl rfl (vX3_evening_17 s a1 a2 a3 hp x2 x3 x4 x6 x7 x8 x9 x10 f11 f12 f13 f14 f15 f16 f17 f18 f19 k0 k25 k33 k34 hI c_1 o_4 c_5 o_6 o_7 c_8 c_9 c_10)
          · refine ⟨fun c_11 => ?_, fun c_11 => ?_⟩
            · exact (ih _ _ _ (vX3_evening_20 s a1 a2 a3 hp x2 x3 x4 x6 x7 x8 x9 x10 f11 f12 f13 f14 f15 f16 f17 f18 f19 k0 k25 k33 k34 hI c_1 o_4 c_5 o_6 o_7 c_8 c_9 c_11)).2 x2 x3 (i64 (Int.tmod (i64 ((i64 (1103515245 * x4)) + 12345)) 2147483648)) (i32 (x6 + 0)) (f14 (i32 (i64 (Int.tmod (i64 (Int.tdiv (i64 (Int.tmod (i64 ((i64 (1103515245 * x4)) + 12345)) 2147483648)) 65536)) (s.2 6 2))))) x8 (i32 (x9 + 0)) (i32 (x10 + 1)) f11 f12 f13 f14 f15 f16 (upI f17 (f15 (i32 (i64 (Int.tmod (i64 (Int.tdiv (i64 (Int.tmod (i64 ((i64 (1103515245 * x4)) + 12345)) 2147483648)) 65536)) (s.2 6 2))))) 1) f18 f19 k0 k25 k33 k34 rfl rfl rfl (vX3_evening_19 s a1 a2 a3 hp x2 x3 x4 x6 x7 x8 x9 x10 f11 f12 f13 f14 f15 f16 f17 f18 f19 k0 k25 k33 k34 hI c_1 o_4 c_5 o_6 o_7 c_8 c_9 c_11)
            · exact (ih _ _ _ (vX3_evening_22 s a1 a2 a3 hp x2 x3 x4 x6 x7 x8 x9 x10 f11 f12 f13 f14 f15 f16 f17 f18 f19 k0 k25 k33 k34 hI c_1 o_4 c_5 o_6 o_7 c_8 c_9 c_11)).2 x2 x3 (i64 (Int.tmod (i64 ((i64 (1103515245 * x4)) + 12345)) 2147483648)) (i32 (x6 + 0)) (f14 (i32 (i64 (Int.tmod (i64 (Int.tdiv (i64 (Int.tmod (i64 ((i64 (1103515245 * x4)) + 12345)) 2147483648)) 65536)) (s.2 6 2))))) x8 (i32 (x9 + 1)) (i32 (x10 + 1)) f11 f12 f13 f14 f15 f16 (upI f17 (f15 (i32 (i64 (Int.tmod (i64 (Int.tdiv (i64 (Int.tmod (i64 ((i64 (1103515245 * x4)) + 12345)) 2147483648)) 65536)) (s.2 6 2))))) 1) f18 f19 k0 k25 k33 k34 rfl rfl rfl (vX3_evening_21 s a1 a2 a3 hp x2 x3 x4 x6 x7 x8 x9 x10 f11 f12 f13 f14 f15 f16 f17 f18 f19 k0 k25 k33 k34 hI c_1 o_4 c_5 o_6 o_7 c_8 c_9 c_11)
        · refine ⟨fun c_12 => ?_, fun c_12 => ?_⟩
          · refine ⟨fun c_13 => ?_, fun c_13 => ?_⟩
            · exact (ih _ _ _ (vX3_evening_24 s a1 a2 a3 hp x2 x3 x4 x6 x7 x8 x9 x10 f11 f12 f13 f14 f15 f16 f17 f18 f19 k0 k25 k33 k34 hI c_1 o_4 c_5 o_6 o_7 c_8 c_12 c_13)).2 x2 x3 (i64 (Int.tmod (i64 ((i64 (1103515245 * x4)) + 12345)) 2147483648)) (i32 (x6 + 1)) x7 x8 (i32 (x9 + 0)) (i32 (x10 + 1)) f11 f12 f13 f14 f15 f16 (upI f17 (f15 (i32 (i64 (Int.tmod (i64 (Int.tdiv (i64 (Int.tmod (i64 ((i64 (1103515245 * x4)) + 12345)) 2147483648)) 65536)) (s.2 6 2))))) 1) f18 f19 k0 k25 k33 k34 rfl rfl rfl (vX3_evening_23 s a1 a2 a3 hp x2 x3 x4 x6 x7 x8 x9 x10 f11 f12 f13 f14 f15 f16 f17 f18 f19 k0 k25 k33 k34 hI c_1 o_4 c_5 o_6 o_7 c_8 c_12 c_13)
            · exact (ih _ _ _ (vX3_evening_26 s a1 a2 a3 hp x2 x3 x4 x6 x7 x8 x9 x10 f11 f12 f13 f14 f15 f16 f17 f18 f19 k0 k25 k33 k34 hI c_1 o_4 c_5 o_6 o_7 c_8 c_12 c_13)).2 x2 x3 (i64 (Int.tmod (i64 ((i64 (1103515245 * x4)) + 12345)) 2147483648)) (i32 (x6 + 1)) x7 x8 (i32 (x9 + 1)) (i32 (x10 + 1)) f11 f12 f13 f14 f15 f16 (upI f17 (f15 (i32 (i64 (Int.tmod (i64 (Int.tdiv (i64 (Int.tmod (i64 ((i64 (1103515245 * x4)) + 12345)) 2147483648)) 65536)) (s.2 6 2))))) 1) f18 f19 k0 k25 k33 k34 rfl rfl rfl (vX3_evening_25 s a1 a2 a3 hp x2 x3 x4 x6 x7 x8 x9 x10 f11 f12 f13 f14 f15 f16 f17 f18 f19 k0 k25 k33 k34 hI c_1 o_4 c_5 o_6 o_7 c_8 c_12 c_13)
          · refine ⟨fun c_14 => ?_, fun c_14 => ?_⟩
            · exact (ih _ _ _ (vX3_evening_28 s a1 a2 a3 hp x2 x3 x4 x6 x7 x8 x9 x10 f11 f12 f13 f14 f15 f16 f17 f18 f19 k0 k25 k33 k34 hI c_1 o_4 c_5 o_6 o_7 c_8 c_12 c_14)).2 x2 x3 (i64 (Int.tmod (i64 ((i64 (1103515245 * x4)) + 12345)) 2147483648)) (i32 (x6 + 1)) (f14 (i32 (i64 (Int.tmod (i64 (Int.tdiv (i64 (Int.tmod (i64 ((i64 (1103515245 * x4)) + 12345)) 2147483648)) 65536)) (s.2 6 2))))) x8 (i32 (x9 + 0)) (i32 (x10 + 1)) f11 f12 f13 f14 f15 f16 (upI f17 (f15 (i32 (i64 (Int.tmod (i64 (Int.tdiv (i64 (Int.tmod (i64 ((i64 (1103515245 * x4)) + 12345)) 2147483648)) 65536)) (s.2 6 2))))) 1) f18 f19 k0 k25 k33 k34 rfl rfl rfl (vX3_evening_27 s a1 a2 a3 hp x2 x3 x4 x6 x7 x8 x9 x10 f11 f12 f13 f14 f15 f16 f17 f18 f19 k0 k25 k33 k34 hI c_1 o_4 c_5 o_6 o_7 c_8 c_12 c_14)
            · exact (ih _ _ _ (vX3_evening_30 s a1 a2 a3 hp x2 x3 x4 x6 x7 x8 x9 x10 f11 f12 f13 f14 f15 f16 f17 f18 f19 k0 k25 k33 k34 hI c_1 o_4 c_5 o_6 o_7 c_8 c_12 c_14)).2 x2 x3 (i64 (Int.tmod (i64 ((i64 (1103515245 * x4)) + 12345)) 2147483648)) (i32 (x6 + 1)) (f14 (i32 (i64 (Int.tmod (i64 (Int.tdiv (i64 (Int.tmod (i64 ((i64 (1103515245 * x4)) + 12345)) 2147483648)) 65536)) (s.2 6 2))))) x8 (i32 (x9 + 1)) (i32 (x10 + 1)) f11 f12 f13 f14 f15 f16 (upI f17 (f15 (i32 (i64 (Int.tmod (i64 (Int.tdiv (i64 (Int.tmod (i64 ((i64 (1103515245 * x4)) + 12345)) 2147483648)) 65536)) (s.2 6 2))))) 1) f18 f19 k0 k25 k33 k34 rfl rfl rfl (vX3_evening_29 s a1 a2 a3 hp x2 x3 x4 x6 x7 x8 x9 x10 f11 f12 f13 f14 f15 f16 f17 f18 f19 k0 k25 k33 k34 hI c_1 o_4 c_5 o_6 o_7 c_8 c_12 c_14)
      · have o_15 : (0 ≤ (i32 (i64 (Int.tmod (i64 (Int.tdiv (i64 (Int.tmod (i64 ((i64 (1103515245 * x4)) + 12345)) 2147483648)) 65536)) (s.2 6 2)))) ∧ (i32 (i64 (Int.tmod (i64 (Int.tdiv (i64 (Int.tmod (i64 ((i64 (1103515245 * x4)) + 12345)) 2147483648)) 65536)) (s.2 6 2)))) < 10000) := (vX3_evening_31 s a1 a2 a3 hp x2 x3 x4 x6 x7 x8 x9 x10 f11 f12 f13 f14 f15 f16 f17 f18 f19 k0 k25 k33 k34 hI c_1 o_4 c_5)
        refine ⟨o_15, ?_⟩
        have o_16 : (0 ≤ (f15 (i32 (i64 (Int.tmod (i64 (Int.tdiv (i64 (Int.tmod (i64 ((i64 (1103515245 * x4)) + 12345)) 2147483648)) 65536)) (s.2 6 2))))) ∧ (f15 (i32 (i64 (Int.tmod (i64 (Int.tdiv (i64 (Int.tmod (i64 ((i64 (1103515245 * x4)) + 12345)) 2147483648)) 65536)) (s.2 6 2))))) < 10000) := (vX3_evening_32 s a1 a2 a3 hp x2 x3 x4 x6 x7 x8 x9 x10 f11 f12 f13 f14 f15 f16 f17 f18 f19 k0 k25 k33 k34 hI c_1 o_4 c_5 o_15)
        refine ⟨o_16, ?_⟩
        refine ⟨fun c_17 => ?_, fun c_17 => ?_⟩
        · refine ⟨fun c_18 => ?_, fun c_18 => ?_⟩
          · refine ⟨fun c_19 => ?_, fun c_19 => ?_⟩
            · exact (ih _ _ _ (vX3_evening_34 s a1 a2 a3 hp x2 x3 x4 x6 x7 x8 x9 x10 f11 f12 f13 f14 f15 f16 f17 f18 f19 k0 k25 k33 k34 hI c_1 o_4 c_5 o_15 o_16 c_17 c_18 c_19)).2 x2 x3 (i64 (Int.tmod (i64 ((i64 (1103515245 * x4)) + 12345)) 2147483648)) (i32 (x6 + 0)) x7 (f15 (i32 (i64 (Int.tmod (i64 (Int.tdiv (i64 (Int.tmod (i64 ((i64 (1103515245 * x4)) + 12345)) 2147483648)) 65536)) (s.2 6 2))))) (i32 (x9 + 0)) (i32 (x10 + 1)) f11 f12 f13 f14 f15 f16 (upI f17 (f15 (i32 (i64 (Int.tmod (i64 (Int.tdiv (i64 (Int.tmod (i64 ((i64 (1103515245 * x4)) + 12345)) 2147483648)) 65536)) (s.2 6 2))))) 1) f18 f19 k0 k25 k33 k34 rfl rfl rfl (vX3_evening_33 s a1 a2 a3 hp x2 x3 x4 x6 x7 x8 x9 x10 f11 f12 f13 f14 f15 f16 f17 f18 f19 k0 k25 k33 k34 hI c_1 o_4 c_5 o_15 o_16 c_17 c_18 c_19)
            · exact (ih _ _ _ (vX3_evening_36 s a1 a2 a3 hp x2 x3 x4 x6 x7 x8 x9 x10 f11 f12 f13 f14 f15 f16 f17 f18 f19 k0 k25 k33 k34 hI c_1 o_4 c_5 o_15 o_16 c_17 c_18 c_19)).2 x2 x3 (i64 (Int.tmod (i64 ((i64 (1103515245 * x4)) + 12345)) 2147483648)) (i32 (x6 + 0)) x7 (f15 (i32 (i64 (Int.tmod (i64 (Int.tdiv (i64 (Int.tmod (i64 ((i64 (1103515245 * x4)) + 12345)) 2147483648)) 65536)) (s.2 6 2))))) (i32 (x9 + 1)) (i32 (x10 + 1)) f11 f12 f13 f14 f15 f16 (upI f17 (f15 (i32 (i64 (Int.tmod (i64 (Int.tdiv (i64 (Int.tmod (i64 ((i64 (1103515245 * x4)) + 12345)) 2147483648)) 65536)) (s.2 6 2))))) 1) f18 f19 k0 k25 k33 k34 rfl rfl rfl (vX3_evening_35 s a1 a2 a3 hp x2 x3 x4 x6 x7 x8 x9 x10 f11 f12 f13 f14 f15 f16 f17 f18 f19 k0 k25 k33 k34 hI c_1 o_4 c_5 o_15 o_16 c_17 c_18 c_19)
          · refine ⟨fun c_20 => ?_, fun c_20 => ?_⟩
            · exact (ih _ _ _ (vX3_evening_38 s a1 a2 a3 hp x2 x3 x4 x6 x7 x8 x9 x10 f11 f12 f13 f14 f15 f16 f17 f18 f19 k0 k25 k33 k34 hI c_1 o_4 c_5 o_15 o_16 c_17 c_18 c_20)).2 x2 x3 (i64 (Int.tmod (i64 ((i64 (1103515245 * x4)) + 12345)) 2147483648)) (i32 (x6 + 0)) (f14 (i32 (i64 (Int.tmod (i64 (Int.tdiv (i64 (Int.tmod (i64 ((i64 (1103515245 * x4)) + 12345)) 2147483648)) 65536)) (s.2 6 2))))) (f15 (i32 (i64 (Int.tmod (i64 (Int.tdiv (i64 (Int.tmod (i64 ((i64 (1103515245 * x4)) + 12345)) 2147483648)) 65536)) (s.2 6 2))))) (i32 (x9 + 0)) (i32 (x10 + 1)) f11 f12 f13 f14 f15 f16 (upI f17 (f15 (i32 (i64 (Int.tmod (i64 (Int.tdiv (i64 (Int.tmod (i64 ((i64 (1103515245 * x4)) + 12345)) 2147483648)) 65536)) (s.2 6 2))))) 1) f18 f19 k0 k25 k33 k34 rfl rfl rfl (vX3_evening_37 s a1 a2 a3 hp x2 x3 x4 x6 x7 x8 x9 x10 f11 f12 f13 f14 f15 f16 f17 f18 f19 k0 k25 k33 k34 hI c_1 o_4 c_5 o_15 o_16 c_17 c_18 c_20)
            · exact (ih _ _ _ (vX3_evening_40 s a1 a2 a3 hp x2 x3 x4 x6 x7 x8 x9 x10 f11 f12 f13 f14 f15 f16 f17 f18 f19 k0 k25 k33 k34 hI c_1 o_4 c_5 o_15 o_16 c_17 c_18 c_20)).2 x2 x3 (i64 (Int.tmod (i64 ((i64 (1103515245 * x4)) + 12345)) 2147483648)) (i32 (x6 + 0)) (f14 (i32 (i64 (Int.tmod (i64 (Int.tdiv (i64 (Int.tmod (i64 ((i64 (1103515245 * x4)) + 12345)) 2147483648)) 65536)) (s.2 6 2))))) (f15 (i32 (i64 (Int.tmod (i64 (Int.tdiv (i64 (Int.tmod (i64 ((i64 (1103515245 * x4)) + 12345)) 2147483648)) 65536)) (s.2 6 2))))) (i32 (x9 + 1)) (i32 (x10 + 1)) f11 f12 f13 f14 f15 f16 (upI f17 (f15 (i32 (i64 (Int.tmod (i64 (Int.tdiv (i64 (Int.tmod (i64 ((i64 (1103515245 * x4)) + 12345)) 2147483648)) 65536)) (s.2 6 2))))) 1) f18 f19 k0 k25 k33 k34 rfl rfl rfl (vX3_evening_39 s a1 a2 a3 hp x2 x3 x4 x6 x7 x8 x9 x10 f11 f12 f13 f14 f15 f16 f17 f18 f19 k0 k25 k33 k34 hI c_1 o_4 c_5 o_15 o_16 c_17 c_18 c_20)
        · refine ⟨fun c_21 => ?_, fun c_21 => ?_⟩
          · refine ⟨fun c_22 => ?_, fun c_22 => ?_⟩
            · exact (ih _ _ _ (vX3_evening_42 s a1 a2 a3 hp x2 x3 x4 x6 x7 x8 x9 x10 f11 f12 f13 f14 f15 f16 f17 f18 f19 k0 k25 k33 k34 hI c_1 o_4 c_5 o_15 o_16 c_17 c_21 c_22)).2 x2 x3 (i64 (Int.tmod (i64 ((i64 (1103515245 * x4)) + 12345)) 2147483648)) (i32 (x6 + 1)) x7 (f15 (i32 (i64 (Int.tmod (i64 (Int.tdiv (i64 (Int.tmod (i64 ((i64 (1103515245 * x4)) + 12345)) 2147483648)) 65536)) (s.2 6 2))))) (i32 (x9 + 0)) (i32 (x10 + 1)) f11 f12 f13 f14 f15 f16 (upI f17 (f15 (i32 (i64 (Int.tmod (i64 (Int.tdiv (i64 (Int.tmod (i64 ((i64 (1103515245 * x4)) + 12345)) 2147483648)) 65536)) (s.2 6 2))))) 1) f18 f19 k0 k25 k33 k34 rfl rfl rfl (vX3_evening_41 s a1 a2 a3 hp x2 x3 x4 x6 x7 x8 x9 x10 f11 f12 f13 f14 f15 f16 f17 f18 f19 k0 k25 k33 k34 hI c_1 o_4 c_5 o_15 o_16 c_17 c_21 c_22)
            · exact (ih _ _ _ (vX3_evening_44 s a1 a2 a3 hp x2 x3 x4 x6 x7 x8 x9 x10 f11 f12 f13 f14 f15 f16 f17 f18 f19 k0 k25 k33 k34 hI c_1 o_4 c_5 o_15 o_16 c_17 c_21 c_22)).2 x2 x3 (i64 (Int.tmod (i64 ((i64 (1103515245 * x4)) + 12345)) 2147483648)) (i32 (x6 + 1)) x7 (f15 (i32 (i64 (Int.tmod (i64 (Int.tdiv (i64 (Int.tmod (i64 ((i64 (1103515245 * x4)) + 12345)) 2147483648)) 65536)) (s.2 6 2))))) (i32 (x9 + 1)) (i32 (x10 + 1)) f11 f12 f13 f14 f15 f16 (upI f17 (f15 (i32 (i64 (Int.tmod (i64 (Int.tdiv (i64 (Int.tmod (i64 ((i64 (1103515245 * x4)) + 12345)) 2147483648)) 65536)) (s.2 6 2))))) 1) f18 f19 k0 k25 k33 k34 rfl rfl rfl (vX3_evening_43 s a1 a2 a3 hp x2 x3 x4 x6 x7 x8 x9 x10 f11 f12 f13 f14 f15 f16 f17 f18 f19 k0 k25 k33 k34 hI c_1 o_4 c_5 o_15 o_16 c_17 c_21 c_22)
          · refine ⟨fun c_23 => ?_, fun c_23 => ?_⟩
            · exact (ih _ _ _ (vX3_evening_46 s a1 a2 a3 hp x2 x3 x4 x6 x7 x8 x9 x10 f11 f12 f13 f14 f15 f16 f17 f18 f19 k0 k25 k33 k34 hI c_1 o_4 c_5 o_15 o_16 c_17 c_21 c_23)).2 x2 x3 (i64 (Int.tmod (i64 ((i64 (1103515245 * x4)) + 12345)) 2147483648)) (i32 (x6 + 1)) (f14 (i32 (i64 (Int.tmod (i64 (Int.tdiv (i64 (Int.tmod (i64 ((i64 (1103515245 * x4)) + 12345)) 2147483648)) 65536)) (s.2 6 2))))) (f15 (i32 (i64 (Int.tmod (i64 (Int.tdiv (i64 (Int.tmod (i64 ((i64 (1103515245 * x4)) + 12345)) 2147483648)) 65536)) (s.2 6 2))))) (i32 (x9 + 0)) (i32 (x10 + 1)) f11 f12 f13 f14 f15 f16 (upI f17 (f15 (i32 (i64 (Int.tmod (i64 (Int.tdiv (i64 (Int.tmod (i64 ((i64 (1103515245 * x4)) + 12345)) 2147483648)) 65536)) (s.2 6 2))))) 1) f18 f19 k0 k25 k33 k34 rfl rfl rfl (vX3_evening_45 s a1 a2 a3 hp x2 x3 x4 x6 x7 x8 x9 x10 f11 f12 f13 f14 f15 f16 f17 f18 f19 k0 k25 k33 k34 hI c_1 o_4 c_5 o_15 o_16 c_17 c_21 c_23)
            · exact (ih _ _ _ (vX3_evening_48 s a1 a2 a3 hp x2 x3 x4 x6 x7 x8 x9 x10 f11 f12 f13 f14 f15 f16 f17 f18 f19 k0 k25 k33 k34 hI c_1 o_4 c_5 o_15 o_16 c_17 c_21 c_23)).2 x2 x3 (i64 (Int.tmod (i64 ((i64 (1103515245 * x4)) + 12345)) 2147483648)) (i32 (x6 + 1)) (f14 (i32 (i64 (Int.tmod (i64 (Int.tdiv (i64 (Int.tmod (i64 ((i64 (1103515245 * x4)) + 12345)) 2147483648)) 65536)) (s.2 6 2))))) (f15 (i32 (i64 (Int.tmod (i64 (Int.tdiv (i64 (Int.tmod (i64 ((i64 (1103515245 * x4)) + 12345)) 2147483648)) 65536)) (s.2 6 2))))) (i32 (x9 + 1)) (i32 (x10 + 1)) f11 f12 f13 f14 f15 f16 (upI f17 (f15 (i32 (i64 (Int.tmod (i64 (Int.tdiv (i64 (Int.tmod (i64 ((i64 (1103515245 * x4)) + 12345)) 2147483648)) 65536)) (s.2 6 2))))) 1) f18 f19 k0 k25 k33 k34 rfl rfl rfl (vX3_evening_47 s a1 a2 a3 hp x2 x3 x4 x6 x7 x8 x9 x10 f11 f12 f13 f14 f15 f16 f17 f18 f19 k0 k25 k33 k34 hI c_1 o_4 c_5 o_15 o_16 c_17 c_21 c_23)
theorem ctX3_evening (b : AH) (s : MS) (a1 : Int) (a2 : Int) (a3 : Int) (hp : tOK (s.2 6) ∧ aOK (s.2 6) (s.2 7) ∧ lOK ((s.2 5) 0) (s.2 6)) : MC mX3_evening 9 b s [vI a1, vI a2, vI a3] (QX3_evening s a1 a2 a3) := by
  refine MC.of (by decide) rfl (Nat.le_of_ble_eq_true rfl) (JW.steq (s2 := sS (sS (sS (sS (sA (sA (sA (sA (sA (sA (sA (sA (sA s 11 (s.2 11)) 12 (s.2 12)) 13 (s.2 13)) 14 (s.2 14)) 15 (s.2 15)) 16 (s.2 16)) 17 (s.2 17)) 18 (s.2 18)) 19 (s.2 19)) 0 (s.1 0)) 25 (s.1 25)) 33 (s.1 33)) 34 (s.1 34)) (by simp only [sA_id, sS_id]) ?_)
  refine bX3_evening_0 b s a1 a2 a3 (s.2 11) (s.2 12) (s.2 13) (s.2 14) (s.2 15) (s.2 16) (s.2 17) (s.2 18) (s.2 19) (s.1 0) (s.1 25) (s.1 33) (s.1 34) ?_
  refine ⟨fun c_2 => ?_, fun c_2 => ?_⟩
  · exact ⟨(s.2 11), (s.2 12), (s.2 13), (s.2 14), (s.2 15), (s.2 16), (s.2 17), (s.2 18), (s.2 19), (s.1 25), (s.1 33), (s.1 34), (rI_c (vX3_evening_49 s a1 a2 a3 hp c_2)), rfl⟩
  · refine ⟨fun c_4 => ?_, fun c_4 => ?_⟩
    · exact ⟨(s.2 11), (s.2 12), (s.2 13), (s.2 14), (s.2 15), (s.2 16), (s.2 17), (s.2 18), (s.2 19), (s.1 25), (s.1 33), (s.1 34), (rI_c (vX3_evening_50 s a1 a2 a3 hp c_2 c_4)), rfl⟩
    · refine ⟨fun c_6 => ?_, fun c_6 => ?_⟩
      · exact ⟨(s.2 11), (s.2 12), (s.2 13), (s.2 14), (s.2 15), (s.2 16), (s.2 17), (s.2 18), (s.2 19), (s.1 25), (s.1 33), (s.1 34), (rI_c (vX3_evening_51 s a1 a2 a3 hp c_2 c_4 c_6)), rfl⟩
      · refine ⟨fun c_8 => ?_, fun c_8 => ?_⟩
        · have o_9 : (tOK (s.2 6) ∧ aOK (s.2 6) (s.2 7)) := (vX3_evening_52 s a1 a2 a3 hp c_2 c_4 c_6 c_8)
          refine ⟨o_9, ?_⟩
          intro f_10 f_11 f_12 f_13 f_14 f_15 f_16 k_17 q_18
          exact (allX3_evening b s a1 a2 a3 hp _ _ _).1 a1 a2 a3 0 f_10 f_11 f_12 f_13 f_14 f_15 f_16 (s.2 18) (s.2 19) 0 k_17 (s.1 33) (s.1 34) rfl rfl rfl (vX3_evening_53 s a1 a2 a3 hp c_2 c_4 c_6 c_8 o_9 f_10 f_11 f_12 f_13 f_14 f_15 f_16 k_17 q_18)
        · exact ⟨(s.2 11), (s.2 12), (s.2 13), (s.2 14), (s.2 15), (s.2 16), (s.2 17), (s.2 18), (s.2 19), (s.1 25), (s.1 33), (s.1 34), (rI_c (vX3_evening_54 s a1 a2 a3 hp c_2 c_4 c_6 c_8)), rfl⟩
