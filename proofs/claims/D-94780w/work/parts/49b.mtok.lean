/-! contracts of the reference: isGood fails is many power clears isOver begins -/
set_option maxRecDepth 100000
def HX3_isGood_0 (Q : Option AV → MS → Prop) (b : AH) (s : MS) : Prop := MW mX3_isGood 1 Q b 0 [(0, vR 351)] [] s
theorem bX3_isGood_0 {Q : Option AV → MS → Prop} (b : AH) (s : MS) (K : (¬ (s.1 12) = 0 → Q (some (vI 0)) s) ∧ ((s.1 12) = 0 → Q (some (vI 1)) s)) : HX3_isGood_0 Q b s  := by
  refine JW.aload_n dX3_isGood_0 rfl ?_
  refine JW.mget (v := vI (s.1 12)) dX3_isGood_1 fX3_129 rfl ?_
  refine JW.if_ne (tgt := 11) dX3_isGood_4 rfl (fun c_1 => ?_) (fun c_1 => ?_)
  · have K := K.1 c_1
    refine JW.iconst dX3_isGood_11 rfl ?_
    exact JW.zreturn dX3_isGood_12 rfl (Or.inl rfl) ⟨_, rfl, K⟩
  · have K := K.2 c_1
    refine JW.iconst dX3_isGood_7 rfl ?_
    refine JW.goto (tgt := 12) dX3_isGood_8 rfl ?_
    exact JW.zreturn dX3_isGood_12 rfl (Or.inr rfl) ⟨_, rfl, K⟩
def QX3_isGood (s : MS) : Option AV → MS → Prop := fun v s' => v = some (vI (bI ((s.1 12) = 0))) ∧ s' = s
theorem vX3_isGood_1 (s : MS) (c_1 : ¬ (s.1 12) = 0) : 0 = (bI ((s.1 12) = 0)) := by
  (try unfold lex3)
  (try simp only [bI_0, bI_n, Classical.not_not] at *)
  (try simp (disch := omega) only [i32_id] at *)
  first | done | omega | ((repeat' (with_reducible apply And.intro)) <;> first | assumption | rfl | omega | (rw [bI_t (by assumption)]) | (rw [bI_f (by assumption)]) | grind [upI])
theorem vX3_isGood_2 (s : MS) (c_1 : (s.1 12) = 0) : 1 = (bI ((s.1 12) = 0)) := by
  (try unfold lex3)
  (try simp only [bI_0, bI_n, Classical.not_not] at *)
  (try simp (disch := omega) only [i32_id] at *)
  first | done | omega | ((repeat' (with_reducible apply And.intro)) <;> first | assumption | rfl | omega | (rw [bI_t (by assumption)]) | (rw [bI_f (by assumption)]) | grind [upI])
theorem ctX3_isGood (b : AH) (s : MS) : MC mX3_isGood 1 b s [] (QX3_isGood s) := by
  refine MC.of (by decide) rfl (Nat.le_of_ble_eq_true rfl) ?_
  refine bX3_isGood_0 b s  ?_
  refine ⟨fun c_1 => ?_, fun c_1 => ?_⟩
  · exact ⟨(rI_c (vX3_isGood_1 s c_1)), rfl⟩
  · exact ⟨(rI_c (vX3_isGood_2 s c_1)), rfl⟩
def HX3_fails_0 (Q : Option AV → MS → Prop) (b : AH) (s : MS) (x1 : Int) (k12 : Int) (k13 : Int) : Prop := MW mX3_fails 1 Q b 0 [(0, vR 351), (1, vI x1)] [] (sS (sS s 12 k12) 13 k13)
theorem bX3_fails_0 {Q : Option AV → MS → Prop} (b : AH) (s : MS) (x1 : Int) (k12 : Int) (k13 : Int) (K : (k12 = 0 → Q none (sS (sS s 12 x1) 13 (s.1 9))) ∧ (¬ k12 = 0 → Q none (sS (sS s 12 k12) 13 k13))) : HX3_fails_0 Q b s x1 k12 k13 := by
  refine JW.aload_n dX3_fails_0 rfl ?_
  refine JW.mget (v := vI k12) dX3_fails_1 fX3_129 rfl ?_
  refine JW.if_eq (tgt := 8) dX3_fails_4 rfl (fun c_1 => ?_) (fun c_1 => ?_)
  · have K := K.1 c_1
    refine JW.aload_n dX3_fails_8 rfl ?_
    refine JW.iload_n dX3_fails_9 rfl ?_
    refine JW.mputI dX3_fails_10 (pX3_129 _) rfl ?_
    refine JW.steq (s2 := sS (sS s 12 x1) 13 k13) (by simp only [sA_A, sS_S, sA_S, sA_lt, sS_lt, Nat.reduceLT, id_eq] <;> rfl) ?_
    refine JW.aload_n dX3_fails_13 rfl ?_
    refine JW.aload_n dX3_fails_14 rfl ?_
    refine JW.mget (v := vI (s.1 9)) dX3_fails_15 fX3_108 rfl ?_
    refine JW.mputI dX3_fails_18 (pX3_132 _) rfl ?_
    refine JW.steq (s2 := sS (sS s 12 x1) 13 (s.1 9)) (by simp only [sA_A, sS_S, sA_S, sA_lt, sS_lt, Nat.reduceLT, id_eq] <;> rfl) ?_
    exact JW.vreturn dX3_fails_21 rfl ⟨_, rfl, K⟩
  · have K := K.2 c_1
    exact JW.vreturn dX3_fails_7 rfl ⟨_, rfl, K⟩
def QX3_fails (s : MS) (a1 : Int) : Option AV → MS → Prop := fun v s' => v = none ∧ s' = sS (sS s 12 (if (s.1 12) = 0 then a1 else (s.1 12))) 13 (if (s.1 12) = 0 then (s.1 9) else (s.1 13))
theorem vX3_fails_1 (s : MS) (a1 : Int) (c_1 : (s.1 12) = 0) : a1 = (if (s.1 12) = 0 then a1 else (s.1 12)) := by
  (try unfold lex3)
  (try simp only [bI_0, bI_n, Classical.not_not] at *)
  (try simp (disch := omega) only [i32_id] at *)
  first | done | omega | ((repeat' (with_reducible apply And.intro)) <;> first | assumption | rfl | omega | (rw [if_pos (by assumption)]) | (rw [if_neg (by assumption)]) | grind [upI])
theorem vX3_fails_2 (s : MS) (a1 : Int) (c_1 : (s.1 12) = 0) : (s.1 9) = (if (s.1 12) = 0 then (s.1 9) else (s.1 13)) := by
  (try unfold lex3)
  (try simp only [bI_0, bI_n, Classical.not_not] at *)
  (try simp (disch := omega) only [i32_id] at *)
  first | done | omega | ((repeat' (with_reducible apply And.intro)) <;> first | assumption | rfl | omega | (rw [if_pos (by assumption)]) | (rw [if_neg (by assumption)]) | grind [upI])
theorem vX3_fails_3 (s : MS) (a1 : Int) (c_1 : ¬ (s.1 12) = 0) : (s.1 12) = (if (s.1 12) = 0 then a1 else (s.1 12)) := by
  (try unfold lex3)
  (try simp only [bI_0, bI_n, Classical.not_not] at *)
  (try simp (disch := omega) only [i32_id] at *)
  first | done | omega | ((repeat' (with_reducible apply And.intro)) <;> first | assumption | rfl | omega | (rw [if_pos (by assumption)]) | (rw [if_neg (by assumption)]) | grind [upI])
theorem vX3_fails_4 (s : MS) (a1 : Int) (c_1 : ¬ (s.1 12) = 0) : (s.1 13) = (if (s.1 12) = 0 then (s.1 9) else (s.1 13)) := by
  (try unfold lex3)
  (try simp only [bI_0, bI_n, Classical.not_not] at *)
  (try simp (disch := omega) only [i32_id] at *)
  first | done | omega | ((repeat' (with_reducible apply And.intro)) <;> first | assumption | rfl | omega | (rw [if_pos (by assumption)]) | (rw [if_neg (by assumption)]) | grind [upI])
theorem ctX3_fails (b : AH) (s : MS) (a1 : Int) : MC mX3_fails 1 b s [vI a1] (QX3_fails s a1) := by
  refine MC.of (by decide) rfl (Nat.le_of_ble_eq_true rfl) (JW.steq (s2 := sS (sS s 12 (s.1 12)) 13 (s.1 13)) (by simp only [sA_id, sS_id]) ?_)
  refine bX3_fails_0 b s a1 (s.1 12) (s.1 13) ?_
  refine ⟨fun c_1 => ?_, fun c_1 => ?_⟩
  · exact ⟨rfl, (sS_c (sS_c rfl (vX3_fails_1 s a1 c_1)) (vX3_fails_2 s a1 c_1))⟩
  · exact ⟨rfl, (sS_c (sS_c rfl (vX3_fails_3 s a1 c_1)) (vX3_fails_4 s a1 c_1))⟩
def HX3_is_0 (Q : Option AV → MS → Prop) (b : AH) (s : MS) (x1 : Int) : Prop := MW mX3_is 1 Q b 0 [(0, vR 351), (1, vL x1)] [] s
theorem bX3_is_0 {Q : Option AV → MS → Prop} (b : AH) (s : MS) (x1 : Int) (K : (¬ (s.1 12) = 0 → Q (some (vI 0)) s) ∧ ((s.1 12) = 0 → (¬ (s.1 8) = 1 → Q (some (vI 0)) s) ∧ ((s.1 8) = 1 → (¬ (jcmp (s.1 11) x1) = 0 → Q (some (vI 0)) s) ∧ ((jcmp (s.1 11) x1) = 0 → Q (some (vI 1)) s)))) : HX3_is_0 Q b s x1 := by
  refine JW.aload_n dX3_is_0 rfl ?_
  refine JW.mget (v := vI (s.1 12)) dX3_is_1 fX3_129 rfl ?_
  refine JW.if_ne (tgt := 28) dX3_is_4 rfl (fun c_1 => ?_) (fun c_1 => ?_)
  · have K := K.1 c_1
    refine JW.iconst dX3_is_28 rfl ?_
    exact JW.zreturn dX3_is_29 rfl (Or.inl rfl) ⟨_, rfl, K⟩
  · have K := K.2 c_1
    refine JW.aload_n dX3_is_7 rfl ?_
    refine JW.mget (v := vI (s.1 8)) dX3_is_8 fX3_118 rfl ?_
    refine JW.iconst dX3_is_11 rfl ?_
    refine JW.icmp_ne (tgt := 28) dX3_is_12 rfl (fun c_2 => ?_) (fun c_2 => ?_)
    · have K := K.1 c_2
      refine JW.iconst dX3_is_28 rfl ?_
      exact JW.zreturn dX3_is_29 rfl (Or.inl rfl) ⟨_, rfl, K⟩
    · have K := K.2 c_2
      refine JW.aload_n dX3_is_15 rfl ?_
      refine JW.mget (v := vL (s.1 11)) dX3_is_16 fX3_114 rfl ?_
      refine JW.lload_n dX3_is_19 rfl ?_
      refine JW.lcmp dX3_is_20 ?_
      refine JW.if_ne (tgt := 28) dX3_is_21 rfl (fun c_3 => ?_) (fun c_3 => ?_)
      · have K := K.1 c_3
        refine JW.iconst dX3_is_28 rfl ?_
        exact JW.zreturn dX3_is_29 rfl (Or.inl rfl) ⟨_, rfl, K⟩
      · have K := K.2 c_3
        refine JW.iconst dX3_is_24 rfl ?_
        refine JW.goto (tgt := 29) dX3_is_25 rfl ?_
        exact JW.zreturn dX3_is_29 rfl (Or.inr rfl) ⟨_, rfl, K⟩
def QX3_is (s : MS) (a1 : Int) : Option AV → MS → Prop := fun v s' => v = some (vI (bI ((s.1 12) = 0 ∧ (s.1 8) = 1 ∧ (s.1 11) = a1))) ∧ s' = s
theorem vX3_is_1 (s : MS) (a1 : Int) (c_1 : ¬ (s.1 12) = 0) : 0 = (bI ((s.1 12) = 0 ∧ (s.1 8) = 1 ∧ (s.1 11) = a1)) := by
  (try simp only [jeq] at *)
  (try unfold lex3)
  (try simp only [bI_0, bI_n, Classical.not_not] at *)
  (try simp (disch := omega) only [i32_id] at *)
  first | done | omega | ((repeat' (with_reducible apply And.intro)) <;> first | assumption | rfl | omega | (rw [bI_t ⟨by assumption, by assumption, by assumption⟩]) | (rw [bI_f (fun q => absurd q.1 (by assumption))]) | (rw [bI_f (fun q => absurd q.2.1 (by assumption))]) | (rw [bI_f (fun q => absurd q.2.2 (by assumption))]) | grind [upI])
theorem vX3_is_2 (s : MS) (a1 : Int) (c_1 : (s.1 12) = 0) (c_2 : ¬ (s.1 8) = 1) : 0 = (bI ((s.1 12) = 0 ∧ (s.1 8) = 1 ∧ (s.1 11) = a1)) := by
  (try simp only [jeq] at *)
  (try unfold lex3)
  (try simp only [bI_0, bI_n, Classical.not_not] at *)
  (try simp (disch := omega) only [i32_id] at *)
  first | done | omega | ((repeat' (with_reducible apply And.intro)) <;> first | assumption | rfl | omega | (rw [bI_t ⟨by assumption, by assumption, by assumption⟩]) | (rw [bI_f (fun q => absurd q.1 (by assumption))]) | (rw [bI_f (fun q => absurd q.2.1 (by assumption))]) | (rw [bI_f (fun q => absurd q.2.2 (by assumption))]) | grind [upI])
theorem vX3_is_3 (s : MS) (a1 : Int) (c_1 : (s.1 12) = 0) (c_2 : (s.1 8) = 1) (c_3 : ¬ (jcmp (s.1 11) a1) = 0) : 0 = (bI ((s.1 12) = 0 ∧ (s.1 8) = 1 ∧ (s.1 11) = a1)) := by
  (try simp only [jeq] at *)
  (try unfold lex3)
  (try simp only [bI_0, bI_n, Classical.not_not] at *)
  (try simp (disch := omega) only [i32_id] at *)
  first | done | omega | ((repeat' (with_reducible apply And.intro)) <;> first | assumption | rfl | omega | (rw [bI_t ⟨by assumption, by assumption, by assumption⟩]) | (rw [bI_f (fun q => absurd q.1 (by assumption))]) | (rw [bI_f (fun q => absurd q.2.1 (by assumption))]) | (rw [bI_f (fun q => absurd q.2.2 (by assumption))]) | grind [upI])
theorem vX3_is_4 (s : MS) (a1 : Int) (c_1 : (s.1 12) = 0) (c_2 : (s.1 8) = 1) (c_3 : (jcmp (s.1 11) a1) = 0) : 1 = (bI ((s.1 12) = 0 ∧ (s.1 8) = 1 ∧ (s.1 11) = a1)) := by
  (try simp only [jeq] at *)
  (try unfold lex3)
  (try simp only [bI_0, bI_n, Classical.not_not] at *)
  (try simp (disch := omega) only [i32_id] at *)
  first | done | omega | ((repeat' (with_reducible apply And.intro)) <;> first | assumption | rfl | omega | (rw [bI_t ⟨by assumption, by assumption, by assumption⟩]) | (rw [bI_f (fun q => absurd q.1 (by assumption))]) | (rw [bI_f (fun q => absurd q.2.1 (by assumption))]) | (rw [bI_f (fun q => absurd q.2.2 (by assumption))]) | grind [upI])
theorem ctX3_is (b : AH) (s : MS) (a1 : Int) : MC mX3_is 1 b s [vL a1] (QX3_is s a1) := by
  refine MC.of (by decide) rfl (Nat.le_of_ble_eq_true rfl) ?_
  refine bX3_is_0 b s a1 ?_
  refine ⟨fun c_1 => ?_, fun c_1 => ?_⟩
  · exact ⟨(rI_c (vX3_is_1 s a1 c_1)), rfl⟩
  · refine ⟨fun c_2 => ?_, fun c_2 => ?_⟩
    · exact ⟨(rI_c (vX3_is_2 s a1 c_1 c_2)), rfl⟩
    · refine ⟨fun c_3 => ?_, fun c_3 => ?_⟩
      · exact ⟨(rI_c (vX3_is_3 s a1 c_1 c_2 c_3)), rfl⟩
      · exact ⟨(rI_c (vX3_is_4 s a1 c_1 c_2 c_3)), rfl⟩
def HX3_many_0 (Q : Option AV → MS → Prop) (b : AH) (s : MS) (x1 : Int) : Prop := MW mX3_many 1 Q b 0 [(0, vR 351), (1, vI x1)] [] s
theorem bX3_many_0 {Q : Option AV → MS → Prop} (b : AH) (s : MS) (x1 : Int) (K : (0 ≤ (i32 (24 + x1)) ∧ (i32 (24 + x1)) < 30) ∧ (Q (some (vI (s.2 6 (i32 (24 + x1))))) s)) : HX3_many_0 Q b s x1 := by
  refine JW.aload_n dX3_many_0 rfl ?_
  refine JW.mget (v := vR 358) dX3_many_1 fX3_34 rfl ?_
  refine JW.bipush dX3_many_4 rfl ?_
  refine JW.iload_n dX3_many_6 rfl ?_
  refine JW.iadd dX3_many_7 ?_
  obtain ⟨o_1, K⟩ := K
  refine JW.mald 6 (x := (s.2 6 (i32 (24 + x1)))) dX3_many_8 (Nat.le_of_ble_eq_true rfl) rfl o_1.1 o_1.2 rfl ?_
  exact JW.ireturn dX3_many_9 rfl rfl ⟨_, rfl, K⟩
def QX3_many (s : MS) (a1 : Int) : Option AV → MS → Prop := fun v s' => v = some (vI ((s.2 6) (24 + a1))) ∧ s' = s
theorem vX3_many_1 (s : MS) (a1 : Int) (hp : 0 ≤ a1 ∧ a1 < 6) : (0 ≤ (i32 (24 + a1)) ∧ (i32 (24 + a1)) < 30) := by
  (try unfold lex3)
  (try simp only [bI_0, bI_n, Classical.not_not] at *)
  (try simp (disch := omega) only [i32_id] at *)
  first | done | omega | ((repeat' (with_reducible apply And.intro)) <;> first | assumption | rfl | omega | grind [upI])
theorem vX3_many_2 (s : MS) (a1 : Int) (hp : 0 ≤ a1 ∧ a1 < 6) (o_1 : (0 ≤ (i32 (24 + a1)) ∧ (i32 (24 + a1)) < 30)) : (s.2 6 (i32 (24 + a1))) = ((s.2 6) (24 + a1)) := by
  (try unfold lex3)
  (try simp only [bI_0, bI_n, Classical.not_not] at *)
  (try simp (disch := omega) only [i32_id] at *)
  first | done | omega | ((repeat' (with_reducible apply And.intro)) <;> first | assumption | rfl | omega | grind [upI])
theorem ctX3_many (b : AH) (s : MS) (a1 : Int) (hp : 0 ≤ a1 ∧ a1 < 6) : MC mX3_many 1 b s [vI a1] (QX3_many s a1) := by
  refine MC.of (by decide) rfl (Nat.le_of_ble_eq_true rfl) ?_
  refine bX3_many_0 b s a1 ?_
  have o_1 : (0 ≤ (i32 (24 + a1)) ∧ (i32 (24 + a1)) < 30) := (vX3_many_1 s a1 hp)
  refine ⟨o_1, ?_⟩
  exact ⟨(rI_c (vX3_many_2 s a1 hp o_1)), rfl⟩
def HX3_power_0 (Q : Option AV → MS → Prop) (b : AH) (s : MS) (x0 : Int) (x1 : Int) : Prop := MW mX3_power 1 Q b 0 [(0, vI x0), (1, vI x1)] [] s
def HX3_power_4 (Q : Option AV → MS → Prop) (b : AH) (s : MS) (x0 : Int) (x1 : Int) (x2 : Int) (x3 : Int) : Prop := MW mX3_power 1 Q b 4 [(0, vI x0), (1, vI x1), (2, vI x2), (3, vI x3)] [] s
theorem bX3_power_0 {Q : Option AV → MS → Prop} (b : AH) (s : MS) (x0 : Int) (x1 : Int) (K : HX3_power_4 Q b s x0 x1 1 0) : HX3_power_0 Q b s x0 x1 := by
  refine JW.iconst dX3_power_0 rfl ?_
  refine JW.istore_n (ls' := [(0, vI x0), (1, vI x1), (2, vI 1)]) dX3_power_1 (Nat.le_of_ble_eq_true rfl) rfl ?_
  refine JW.iconst dX3_power_2 rfl ?_
  refine JW.istore_n (ls' := [(0, vI x0), (1, vI x1), (2, vI 1), (3, vI 0)]) dX3_power_3 (Nat.le_of_ble_eq_true rfl) rfl ?_
  exact JW.pick [0, 1, 2, 3] rfl K
theorem bX3_power_4 {Q : Option AV → MS → Prop} (b : AH) (s : MS) (x0 : Int) (x1 : Int) (x2 : Int) (x3 : Int) (K : (x1 ≤ x3 → Q (some (vI x2)) s) ∧ (¬ x1 ≤ x3 → (10000 < x2 → Q (some (vI x2)) s) ∧ (¬ 10000 < x2 → HX3_power_4 Q b s x0 x1 (i32 (x2 * x0)) (i32 (x3 + 1))))) : HX3_power_4 Q b s x0 x1 x2 x3 := by
  refine JW.iload_n dX3_power_4 rfl ?_
  refine JW.iload_n dX3_power_5 rfl ?_
  refine JW.icmp_ge (tgt := 26) dX3_power_6 rfl (fun c_1 => ?_) (fun c_1 => ?_)
  · have K := K.1 c_1
    refine JW.iload_n dX3_power_26 rfl ?_
    exact JW.ireturn dX3_power_27 rfl rfl ⟨_, rfl, K⟩
  · have K := K.2 c_1
    refine JW.iload_n dX3_power_9 rfl ?_
    refine JW.sipush dX3_power_10 rfl ?_
    refine JW.icmp_gt (tgt := 26) dX3_power_13 rfl (fun c_2 => ?_) (fun c_2 => ?_)
    · have K := K.1 c_2
      refine JW.iload_n dX3_power_26 rfl ?_
      exact JW.ireturn dX3_power_27 rfl rfl ⟨_, rfl, K⟩
    · have K := K.2 c_2
      refine JW.iload_n dX3_power_16 rfl ?_
      refine JW.iload_n dX3_power_17 rfl ?_
      refine JW.imul dX3_power_18 ?_
      refine JW.istore_n (ls' := [(0, vI x0), (1, vI x1), (2, vI (i32 (x2 * x0))), (3, vI x3)]) dX3_power_19 (Nat.le_of_ble_eq_true rfl) rfl ?_
      refine JW.iinc (ls' := [(0, vI x0), (1, vI x1), (2, vI (i32 (x2 * x0))), (3, vI (i32 (x3 + 1)))]) dX3_power_20 (Nat.le_of_ble_eq_true rfl) rfl rfl ?_
      refine JW.goto (tgt := 4) dX3_power_23 rfl ?_
      exact JW.pick [0, 1, 2, 3] rfl K
def QX3_power (s : MS) (a1 : Int) (a2 : Int) : Option AV → MS → Prop := fun v s' => v = some (vI (pwN a1 (a2).toNat)) ∧ s' = s
theorem vX3_power_1 (s : MS) (a1 : Int) (a2 : Int) (hp : 0 ≤ a1 ∧ a1 ≤ 16 ∧ 0 ≤ a2 ∧ a2 ≤ 100000) (x0 : Int) (x1 : Int) (x2 : Int) (x3 : Int) (hI : x0 = a1 ∧ x1 = a2 ∧ (0 ≤ x3 ∧ x3 ≤ a2) ∧ x2 = pwN a1 x3.toNat) (c_1 : x1 ≤ x3) : x2 = (pwN a1 (a2).toNat) := by
  obtain ⟨h0, h1, h2, h3⟩ := hp
  (try unfold lex3)
  (try simp only [bI_0, bI_n, Classical.not_not] at *)
  (try simp (disch := omega) only [i32_id] at *)
  first | done | omega | ((repeat' (with_reducible apply And.intro)) <;> first | assumption | rfl | omega | (rw [hI.2.2.2, show x3 = a2 by omega]) | (rw [hI.2.2.2]; exact (pwN_stop (by rw [← hI.2.2.2]; omega) _ (by omega)).symm) | (rw [hI.2.2.2, hI.1]; exact pwN_step h0 h1 hI.2.2.1.1 (by rw [← hI.2.2.2]; omega)) | grind [upI])
theorem vX3_power_2 (s : MS) (a1 : Int) (a2 : Int) (hp : 0 ≤ a1 ∧ a1 ≤ 16 ∧ 0 ≤ a2 ∧ a2 ≤ 100000) (x0 : Int) (x1 : Int) (x2 : Int) (x3 : Int) (hI : x0 = a1 ∧ x1 = a2 ∧ (0 ≤ x3 ∧ x3 ≤ a2) ∧ x2 = pwN a1 x3.toNat) (c_1 : ¬ x1 ≤ x3) (c_2 : 10000 < x2) : x2 = (pwN a1 (a2).toNat) := by
  obtain ⟨h0, h1, h2, h3⟩ := hp
  (try unfold lex3)
  (try simp only [bI_0, bI_n, Classical.not_not] at *)
  (try simp (disch := omega) only [i32_id] at *)
  first | done | omega | ((repeat' (with_reducible apply And.intro)) <;> first | assumption | rfl | omega | (rw [hI.2.2.2, show x3 = a2 by omega]) | (rw [hI.2.2.2]; exact (pwN_stop (by rw [← hI.2.2.2]; omega) _ (by omega)).symm) | (rw [hI.2.2.2, hI.1]; exact pwN_step h0 h1 hI.2.2.1.1 (by rw [← hI.2.2.2]; omega)) | grind [upI])
theorem vX3_power_3 (s : MS) (a1 : Int) (a2 : Int) (hp : 0 ≤ a1 ∧ a1 ≤ 16 ∧ 0 ≤ a2 ∧ a2 ≤ 100000) (x0 : Int) (x1 : Int) (x2 : Int) (x3 : Int) (hI : x0 = a1 ∧ x1 = a2 ∧ (0 ≤ x3 ∧ x3 ≤ a2) ∧ x2 = pwN a1 x3.toNat) (c_1 : ¬ x1 ≤ x3) (c_2 : ¬ 10000 < x2) : x0 = a1 ∧ x1 = a2 ∧ (0 ≤ (i32 (x3 + 1)) ∧ (i32 (x3 + 1)) ≤ a2) ∧ (i32 (x2 * x0)) = pwN a1 (i32 (x3 + 1)).toNat := by
  obtain ⟨h0, h1, h2, h3⟩ := hp
  (try unfold lex3)
  (try simp only [bI_0, bI_n, Classical.not_not] at *)
  (try simp (disch := omega) only [i32_id] at *)
  first | done | omega | ((repeat' (with_reducible apply And.intro)) <;> first | assumption | rfl | omega | (rw [hI.2.2.2, show x3 = a2 by omega]) | (rw [hI.2.2.2]; exact (pwN_stop (by rw [← hI.2.2.2]; omega) _ (by omega)).symm) | (rw [hI.2.2.2, hI.1]; exact pwN_step h0 h1 hI.2.2.1.1 (by rw [← hI.2.2.2]; omega)) | grind [upI])
theorem vX3_power_4 (s : MS) (a1 : Int) (a2 : Int) (hp : 0 ≤ a1 ∧ a1 ≤ 16 ∧ 0 ≤ a2 ∧ a2 ≤ 100000) (x0 : Int) (x1 : Int) (x2 : Int) (x3 : Int) (hI : x0 = a1 ∧ x1 = a2 ∧ (0 ≤ x3 ∧ x3 ≤ a2) ∧ x2 = pwN a1 x3.toNat) (c_1 : ¬ x1 ≤ x3) (c_2 : ¬ 10000 < x2) : lex3 0 0 ((a2 - (i32 (x3 + 1))).toNat) 0 0 ((a2 - x3).toNat) := by
  obtain ⟨h0, h1, h2, h3⟩ := hp
  (try unfold lex3)
  (try simp only [bI_0, bI_n, Classical.not_not] at *)
  (try simp (disch := omega) only [i32_id] at *)
  first | done | omega | ((repeat' (with_reducible apply And.intro)) <;> first | assumption | rfl | omega | (rw [hI.2.2.2, show x3 = a2 by omega]) | (rw [hI.2.2.2]; exact (pwN_stop (by rw [← hI.2.2.2]; omega) _ (by omega)).symm) | (rw [hI.2.2.2, hI.1]; exact pwN_step h0 h1 hI.2.2.1.1 (by rw [← hI.2.2.2]; omega)) | grind [upI])
theorem vX3_power_5 (s : MS) (a1 : Int) (a2 : Int) (hp : 0 ≤ a1 ∧ a1 ≤ 16 ∧ 0 ≤ a2 ∧ a2 ≤ 100000) : a1 = a1 ∧ a2 = a2 ∧ (0 ≤ (0 : Int) ∧ (0 : Int) ≤ a2) ∧ (1 : Int) = pwN a1 (0 : Int).toNat := by
  obtain ⟨h0, h1, h2, h3⟩ := hp
  (try unfold lex3)
  (try simp only [bI_0, bI_n, Classical.not_not] at *)
  (try simp (disch := omega) only [i32_id] at *)
  first | done | omega | ((repeat' (with_reducible apply And.intro)) <;> first | assumption | rfl | omega | (rw [hI.2.2.2, show x3 = a2 by omega]) | (rw [hI.2.2.2]; exact (pwN_stop (by rw [← hI.2.2.2]; omega) _ (by omega)).symm) | (rw [hI.2.2.2, hI.1]; exact pwN_step h0 h1 hI.2.2.1.1 (by rw [← hI.2.2.2]; omega)) | grind [upI])
theorem allX3_power (b : AH) (s : MS) (a1 : Int) (a2 : Int) (hp : 0 ≤ a1 ∧ a1 ≤ 16 ∧ 0 ≤ a2 ∧ a2 ≤ 100000) : ∀ m1 m2 m3 : Nat, (∀ (x0 : Int) (x1 : Int) (x2 : Int) (x3 : Int), m1 = 0 → m2 = 0 → m3 = ((a2 - x3).toNat) → (x0 = a1 ∧ x1 = a2 ∧ (0 ≤ x3 ∧ x3 ≤ a2) ∧ x2 = pwN a1 x3.toNat) → HX3_power_4 (QX3_power s a1 a2) b s x0 x1 x2 x3) := by
  refine lex3_ind ?_
  intro m1 m2 m3 ih
  rintro x0 x1 x2 x3 rfl rfl rfl hI
  refine bX3_power_4 b s x0 x1 x2 x3 ?_
  refine ⟨fun c_1 => ?_, fun c_1 => ?_⟩
  · exact ⟨(rI_c (vX3_power_1 s a1 a2 hp x0 x1 x2 x3 hI c_1)), rfl⟩
  · refine ⟨fun c_2 => ?_, fun c_2 => ?_⟩
    · exact ⟨(rI_c (vX3_power_2 s a1 a2 hp x0 x1 x2 x3 hI c_1 c_2)), rfl⟩
    · exact (ih _ _ _ (vX3_power_4 s a1 a2 hp x0 x1 x2 x3 hI c_1 c_2)) x0 x1 (i32 (x2 * x0)) (i32 (x3 + 1)) rfl rfl rfl (vX3_power_3 s a1 a2 hp x0 x1 x2 x3 hI c_1 c_2)
theorem ctX3_power (b : AH) (s : MS) (a1 : Int) (a2 : Int) (hp : 0 ≤ a1 ∧ a1 ≤ 16 ∧ 0 ≤ a2 ∧ a2 ≤ 100000) : MCS mX3_power 1 b s [vI a1, vI a2] (QX3_power s a1 a2) := by
  refine MCS.of (by decide) rfl (Nat.le_of_ble_eq_true rfl) ?_
  refine bX3_power_0 b s a1 a2 ?_
  exact (allX3_power b s a1 a2 hp _ _ _) a1 a2 1 0 rfl rfl rfl (vX3_power_5 s a1 a2 hp)
def HX3_clears_0 (Q : Option AV → MS → Prop) (b : AH) (s : MS) (f5 : Int → Int) (f6 : Int → Int) (k21 : Int) : Prop := MW mX3_clears 1 Q b 0 [(0, vR 351)] [] (sS (sA (sA s 5 f5) 6 f6) 21 k21)
def HX3_clears_9 (Q : Option AV → MS → Prop) (b : AH) (s : MS) (x1 : Int) (f5 : Int → Int) (f6 : Int → Int) (k21 : Int) : Prop := MW mX3_clears 1 Q b 9 [(0, vR 351), (1, vI x1)] [] (sS (sA (sA s 5 f5) 6 f6) 21 k21)
theorem bX3_clears_0 {Q : Option AV → MS → Prop} (b : AH) (s : MS) (f5 : Int → Int) (f6 : Int → Int) (k21 : Int) (K : HX3_clears_9 Q b s 0 (upI f5 4 0) f6 k21) : HX3_clears_0 Q b s f5 f6 k21 := by
  refine JW.aload_n dX3_clears_0 rfl ?_
  refine JW.mget (v := vR 357) dX3_clears_1 fX3_31 rfl ?_
  refine JW.iconst dX3_clears_4 rfl ?_
  refine JW.iconst dX3_clears_5 rfl ?_
  refine JW.mast 5 (f := f5) dX3_clears_6 (Nat.le_of_ble_eq_true rfl) rfl (by decide) (by decide) rfl ?_
  refine JW.steq (s2 := sS (sA (sA s 5 (upI f5 4 0)) 6 f6) 21 k21) (by simp only [sA_A, sS_S, sA_S, sA_lt, sS_lt, Nat.reduceLT, id_eq] <;> rfl) ?_
  refine JW.iconst dX3_clears_7 rfl ?_
  refine JW.istore_n (ls' := [(0, vR 351), (1, vI 0)]) dX3_clears_8 (Nat.le_of_ble_eq_true rfl) rfl ?_
  exact JW.pick [0, 1] rfl K
theorem bX3_clears_9 {Q : Option AV → MS → Prop} (b : AH) (s : MS) (x1 : Int) (f5 : Int → Int) (f6 : Int → Int) (k21 : Int) (K : (6 ≤ x1 → Q none (sS (sA (sA s 5 f5) 6 f6) 21 0)) ∧ (¬ 6 ≤ x1 → (0 ≤ (i32 (24 + x1)) ∧ (i32 (24 + x1)) < 30) ∧ (HX3_clears_9 Q b s (i32 (x1 + 1)) f5 (upI f6 (i32 (24 + x1)) 0) k21))) : HX3_clears_9 Q b s x1 f5 f6 k21 := by
  refine JW.iload_n dX3_clears_9 rfl ?_
  refine JW.bipush dX3_clears_10 rfl ?_
  refine JW.icmp_ge (tgt := 31) dX3_clears_12 rfl (fun c_1 => ?_) (fun c_1 => ?_)
  · have K := K.1 c_1
    refine JW.aload_n dX3_clears_31 rfl ?_
    refine JW.iconst dX3_clears_32 rfl ?_
    refine JW.mputZ dX3_clears_33 (pX3_196 _) rfl (Or.inl rfl) ?_
    refine JW.steq (s2 := sS (sA (sA s 5 f5) 6 f6) 21 0) (by simp only [sA_A, sS_S, sA_S, sA_lt, sS_lt, Nat.reduceLT, id_eq] <;> rfl) ?_
    exact JW.vreturn dX3_clears_36 rfl ⟨_, rfl, K⟩
  · have K := K.2 c_1
    refine JW.aload_n dX3_clears_15 rfl ?_
    refine JW.mget (v := vR 358) dX3_clears_16 fX3_34 rfl ?_
    refine JW.bipush dX3_clears_19 rfl ?_
    refine JW.iload_n dX3_clears_21 rfl ?_
    refine JW.iadd dX3_clears_22 ?_
    refine JW.iconst dX3_clears_23 rfl ?_
    obtain ⟨o_2, K⟩ := K
    refine JW.mast 6 (f := f6) dX3_clears_24 (Nat.le_of_ble_eq_true rfl) rfl o_2.1 o_2.2 rfl ?_
    refine JW.steq (s2 := sS (sA (sA s 5 f5) 6 (upI f6 (i32 (24 + x1)) 0)) 21 k21) (by simp only [sA_A, sS_S, sA_S, sA_lt, sS_lt, Nat.reduceLT, id_eq] <;> rfl) ?_
    refine JW.iinc (ls' := [(0, vR 351), (1, vI (i32 (x1 + 1)))]) dX3_clears_25 (Nat.le_of_ble_eq_true rfl) rfl rfl ?_
    refine JW.goto (tgt := 9) dX3_clears_28 rfl ?_
    exact JW.pick [0, 1] rfl K
def QX3_clears (s : MS) : Option AV → MS → Prop := fun v s' => v = none ∧ s' = sS (sA (sA s 5 (upI (s.2 5) 4 0)) 6 (fillC (s.2 6) 24 6 0)) 21 (0)
theorem vX3_clears_1 (s : MS) (x1 : Int) (f5 : Int → Int) (f6 : Int → Int) (k21 : Int) (hI : f5 = upI (s.2 5) 4 0 ∧ (0 ≤ x1 ∧ x1 ≤ 6) ∧ f6 = fillC (s.2 6) 24 x1 0) (c_1 : 6 ≤ x1) : f5 = (upI (s.2 5) 4 0) := by
  (try unfold lex3)
  (try simp only [bI_0, bI_n, Classical.not_not] at *)
  (try simp (disch := omega) only [i32_id] at *)
  first | done | omega | ((repeat' (with_reducible apply And.intro)) <;> first | assumption | rfl | omega | (exact hI.1) | (rw [hI.2.2, show x1 = 6 by omega]) | (rw [hI.2.2]; exact fillC_s (by omega) (by omega)) | (exact fillC_0 _ _ _) | grind [upI])
theorem vX3_clears_2 (s : MS) (x1 : Int) (f5 : Int → Int) (f6 : Int → Int) (k21 : Int) (hI : f5 = upI (s.2 5) 4 0 ∧ (0 ≤ x1 ∧ x1 ≤ 6) ∧ f6 = fillC (s.2 6) 24 x1 0) (c_1 : 6 ≤ x1) : f6 = (fillC (s.2 6) 24 6 0) := by
  (try unfold lex3)
  (try simp only [bI_0, bI_n, Classical.not_not] at *)
  (try simp (disch := omega) only [i32_id] at *)
  first | done | omega | ((repeat' (with_reducible apply And.intro)) <;> first | assumption | rfl | omega | (exact hI.1) | (rw [hI.2.2, show x1 = 6 by omega]) | (rw [hI.2.2]; exact fillC_s (by omega) (by omega)) | (exact fillC_0 _ _ _) | grind [upI])
theorem vX3_clears_3 (s : MS) (x1 : Int) (f5 : Int → Int) (f6 : Int → Int) (k21 : Int) (hI : f5 = upI (s.2 5) 4 0 ∧ (0 ≤ x1 ∧ x1 ≤ 6) ∧ f6 = fillC (s.2 6) 24 x1 0) (c_1 : ¬ 6 ≤ x1) : (0 ≤ (i32 (24 + x1)) ∧ (i32 (24 + x1)) < 30) := by
  (try unfold lex3)
  (try simp only [bI_0, bI_n, Classical.not_not] at *)
  (try simp (disch := omega) only [i32_id] at *)
  first | done | omega | ((repeat' (with_reducible apply And.intro)) <;> first | assumption | rfl | omega | (exact hI.1) | (rw [hI.2.2, show x1 = 6 by omega]) | (rw [hI.2.2]; exact fillC_s (by omega) (by omega)) | (exact fillC_0 _ _ _) | grind [upI])
theorem vX3_clears_4 (s : MS) (x1 : Int) (f5 : Int → Int) (f6 : Int → Int) (k21 : Int) (hI : f5 = upI (s.2 5) 4 0 ∧ (0 ≤ x1 ∧ x1 ≤ 6) ∧ f6 = fillC (s.2 6) 24 x1 0) (c_1 : ¬ 6 ≤ x1) (o_2 : (0 ≤ (i32 (24 + x1)) ∧ (i32 (24 + x1)) < 30)) : f5 = upI (s.2 5) 4 0 ∧ (0 ≤ (i32 (x1 + 1)) ∧ (i32 (x1 + 1)) ≤ 6) ∧ (upI f6 (i32 (24 + x1)) 0) = fillC (s.2 6) 24 (i32 (x1 + 1)) 0 := by
  (try unfold lex3)
  (try simp only [bI_0, bI_n, Classical.not_not] at *)
  (try simp (disch := omega) only [i32_id] at *)
  first | done | omega | ((repeat' (with_reducible apply And.intro)) <;> first | assumption | rfl | omega | (exact hI.1) | (rw [hI.2.2, show x1 = 6 by omega]) | (rw [hI.2.2]; exact fillC_s (by omega) (by omega)) | (exact fillC_0 _ _ _) | grind [upI])
theorem vX3_clears_5 (s : MS) (x1 : Int) (f5 : Int → Int) (f6 : Int → Int) (k21 : Int) (hI : f5 = upI (s.2 5) 4 0 ∧ (0 ≤ x1 ∧ x1 ≤ 6) ∧ f6 = fillC (s.2 6) 24 x1 0) (c_1 : ¬ 6 ≤ x1) (o_2 : (0 ≤ (i32 (24 + x1)) ∧ (i32 (24 + x1)) < 30)) : lex3 0 0 ((6 - (i32 (x1 + 1))).toNat) 0 0 ((6 - x1).toNat) := by
  (try unfold lex3)
  (try simp only [bI_0, bI_n, Classical.not_not] at *)
  (try simp (disch := omega) only [i32_id] at *)
  first | done | omega | ((repeat' (with_reducible apply And.intro)) <;> first | assumption | rfl | omega | (exact hI.1) | (rw [hI.2.2, show x1 = 6 by omega]) | (rw [hI.2.2]; exact fillC_s (by omega) (by omega)) | (exact fillC_0 _ _ _) | grind [upI])
theorem vX3_clears_6 (s : MS) : (upI (s.2 5) 4 0) = upI (s.2 5) 4 0 ∧ (0 ≤ (0 : Int) ∧ (0 : Int) ≤ 6) ∧ (s.2 6) = fillC (s.2 6) 24 (0 : Int) 0 := by
  (try unfold lex3)
  (try simp only [bI_0, bI_n, Classical.not_not] at *)
  (try simp (disch := omega) only [i32_id] at *)
  first | done | omega | ((repeat' (with_reducible apply And.intro)) <;> first | assumption | rfl | omega | (exact hI.1) | (rw [hI.2.2, show x1 = 6 by omega]) | (rw [hI.2.2]; exact fillC_s (by omega) (by omega)) | (exact fillC_0 _ _ _) | grind [upI])
theorem allX3_clears (b : AH) (s : MS) : ∀ m1 m2 m3 : Nat, (∀ (x1 : Int) (f5 : Int → Int) (f6 : Int → Int) (k21 : Int), m1 = 0 → m2 = 0 → m3 = ((6 - x1).toNat) → (f5 = upI (s.2 5) 4 0 ∧ (0 ≤ x1 ∧ x1 ≤ 6) ∧ f6 = fillC (s.2 6) 24 x1 0) → HX3_clears_9 (QX3_clears s) b s x1 f5 f6 k21) := by
  refine lex3_ind ?_
  intro m1 m2 m3 ih
  rintro x1 f5 f6 k21 rfl rfl rfl hI
  refine bX3_clears_9 b s x1 f5 f6 k21 ?_
  refine ⟨fun c_1 => ?_, fun c_1 => ?_⟩
  · exact ⟨rfl, (sS_c (sA_c (sA_c rfl (vX3_clears_1 s x1 f5 f6 k21 hI c_1)) (vX3_clears_2 s x1 f5 f6 k21 hI c_1)) rfl)⟩
  · have o_2 : (0 ≤ (i32 (24 + x1)) ∧ (i32 (24 + x1)) < 30) := (vX3_clears_3 s x1 f5 f6 k21 hI c_1)
    refine ⟨o_2, ?_⟩
    exact (ih _ _ _ (vX3_clears_5 s x1 f5 f6 k21 hI c_1 o_2)) (i32 (x1 + 1)) f5 (upI f6 (i32 (24 + x1)) 0) k21 rfl rfl rfl (vX3_clears_4 s x1 f5 f6 k21 hI c_1 o_2)
theorem ctX3_clears (b : AH) (s : MS) : MC mX3_clears 1 b s [] (QX3_clears s) := by
  refine MC.of (by decide) rfl (Nat.le_of_ble_eq_true rfl) (JW.steq (s2 := sS (sA (sA s 5 (s.2 5)) 6 (s.2 6)) 21 (s.1 21)) (by simp only [sA_id, sS_id]) ?_)
  refine bX3_clears_0 b s (s.2 5) (s.2 6) (s.1 21) ?_
  exact (allX3_clears b s _ _ _) 0 (upI (s.2 5) 4 0) (s.2 6) (s.1 21) rfl rfl rfl (vX3_clears_6 s)
def HX3_isOver_0 (Q : Option AV → MS → Prop) (b : AH) (s : MS) (k6 : Int) (k14 : Int) (k15 : Int) : Prop := MW mX3_isOver 1 Q b 0 [(0, vR 351)] [] (sS (sS (sS s 6 k6) 14 k14) 15 k15)
theorem bX3_isOver_0 {Q : Option AV → MS → Prop} (b : AH) (s : MS) (k6 : Int) (k14 : Int) (k15 : Int) (K : (¬ (s.1 12) = 0 → Q none (sS (sS (sS s 6 0) 14 (s.1 12)) 15 (s.1 13))) ∧ ((s.1 12) = 0 → Q none (sS (sS (sS s 6 0) 14 (s.1 12)) 15 (-1)))) : HX3_isOver_0 Q b s k6 k14 k15 := by
  refine JW.aload_n dX3_isOver_0 rfl ?_
  refine JW.iconst dX3_isOver_1 rfl ?_
  refine JW.mputI dX3_isOver_2 (pX3_94 _) rfl ?_
  refine JW.steq (s2 := sS (sS (sS s 6 0) 14 k14) 15 k15) (by simp only [sA_A, sS_S, sA_S, sA_lt, sS_lt, Nat.reduceLT, id_eq] <;> rfl) ?_
  refine JW.aload_n dX3_isOver_5 rfl ?_
  refine JW.aload_n dX3_isOver_6 rfl ?_
  refine JW.mget (v := vI (s.1 12)) dX3_isOver_7 fX3_129 rfl ?_
  refine JW.mputI dX3_isOver_10 (pX3_156 _) rfl ?_
  refine JW.steq (s2 := sS (sS (sS s 6 0) 14 (s.1 12)) 15 k15) (by simp only [sA_A, sS_S, sA_S, sA_lt, sS_lt, Nat.reduceLT, id_eq] <;> rfl) ?_
  refine JW.aload_n dX3_isOver_13 rfl ?_
  refine JW.aload_n dX3_isOver_14 rfl ?_
  refine JW.mget (v := vI (s.1 12)) dX3_isOver_15 fX3_129 rfl ?_
  refine JW.if_ne (tgt := 25) dX3_isOver_18 rfl (fun c_1 => ?_) (fun c_1 => ?_)
  · have K := K.1 c_1
    refine JW.aload_n dX3_isOver_25 rfl ?_
    refine JW.mget (v := vI (s.1 13)) dX3_isOver_26 fX3_132 rfl ?_
    refine JW.mputI dX3_isOver_29 (pX3_27 _) rfl ?_
    refine JW.steq (s2 := sS (sS (sS s 6 0) 14 (s.1 12)) 15 (s.1 13)) (by simp only [sA_A, sS_S, sA_S, sA_lt, sS_lt, Nat.reduceLT, id_eq] <;> rfl) ?_
    exact JW.vreturn dX3_isOver_32 rfl ⟨_, rfl, K⟩
  · have K := K.2 c_1
    refine JW.iconst dX3_isOver_21 rfl ?_
    refine JW.goto (tgt := 29) dX3_isOver_22 rfl ?_
    refine JW.mputI dX3_isOver_29 (pX3_27 _) rfl ?_
    refine JW.steq (s2 := sS (sS (sS s 6 0) 14 (s.1 12)) 15 (-1)) (by simp only [sA_A, sS_S, sA_S, sA_lt, sS_lt, Nat.reduceLT, id_eq] <;> rfl) ?_
    exact JW.vreturn dX3_isOver_32 rfl ⟨_, rfl, K⟩
def QX3_isOver (s : MS) : Option AV → MS → Prop := fun v s' => v = none ∧ s' = sS (sS (sS s 6 (0)) 14 ((s.1 12))) 15 (if (s.1 12) = 0 then -1 else (s.1 13))
theorem vX3_isOver_1 (s : MS) (c_1 : ¬ (s.1 12) = 0) : (s.1 13) = (if (s.1 12) = 0 then -1 else (s.1 13)) := by
  (try unfold lex3)
  (try simp only [bI_0, bI_n, Classical.not_not] at *)
  (try simp (disch := omega) only [i32_id] at *)
  first | done | omega | ((repeat' (with_reducible apply And.intro)) <;> first | assumption | rfl | omega | (rw [if_pos (by assumption)]) | (rw [if_neg (by assumption)]) | grind [upI])
theorem vX3_isOver_2 (s : MS) (c_1 : (s.1 12) = 0) : (-1) = (if (s.1 12) = 0 then -1 else (s.1 13)) := by
  (try unfold lex3)
  (try simp only [bI_0, bI_n, Classical.not_not] at *)
  (try simp (disch := omega) only [i32_id] at *)
  first | done | omega | ((repeat' (with_reducible apply And.intro)) <;> first | assumption | rfl | omega | (rw [if_pos (by assumption)]) | (rw [if_neg (by assumption)]) | grind [upI])
theorem ctX3_isOver (b : AH) (s : MS) : MC mX3_isOver 1 b s [] (QX3_isOver s) := by
  refine MC.of (by decide) rfl (Nat.le_of_ble_eq_true rfl) (JW.steq (s2 := sS (sS (sS s 6 (s.1 6)) 14 (s.1 14)) 15 (s.1 15)) (by simp only [sA_id, sS_id]) ?_)
  refine bX3_isOver_0 b s (s.1 6) (s.1 14) (s.1 15) ?_
  refine ⟨fun c_1 => ?_, fun c_1 => ?_⟩
  · exact ⟨rfl, (sS_c (sS_c (sS_c rfl rfl) rfl) (vX3_isOver_1 s c_1))⟩
  · exact ⟨rfl, (sS_c (sS_c (sS_c rfl rfl) rfl) (vX3_isOver_2 s c_1))⟩
def HX3_begins_0 (Q : Option AV → MS → Prop) (b : AH) (s : MS) (k7 : Int) (k8 : Int) (k9 : Int) (k10 : Int) (k11 : Int) (k12 : Int) (k13 : Int) : Prop := MW mX3_begins 3 Q b 0 [(0, vR 351)] [] (sS (sS (sS (sS (sS (sS (sS s 7 k7) 8 k8) 9 k9) 10 k10) 11 k11) 12 k12) 13 k13)
theorem bX3_begins_0 {Q : Option AV → MS → Prop} (b : AH) (s : MS) (k7 : Int) (k8 : Int) (k9 : Int) (k10 : Int) (k11 : Int) (k12 : Int) (k13 : Int) (K : (0 ≤ (0 : Int) ∧ (0 : Int) ≤ (s.1 6) ∧ (s.1 6) ≤ 800) ∧ (Q none (sS (sS (sS (sS (sS (sS (sS s 7 (enx (s.2 4) (s.1 6) (0 : Int))) 8 (knd (s.2 4) (s.1 6) (0 : Int))) 9 (plc (s.2 4) (s.1 6) (0 : Int))) 10 (vlu (s.2 4) (s.1 6) (0 : Int))) 11 (wrd (s.2 4) (s.1 6) (0 : Int))) 12 0) 13 (-1)))) : HX3_begins_0 Q b s k7 k8 k9 k10 k11 k12 k13 := by
  refine JW.aload_n dX3_begins_0 rfl ?_
  refine JW.iconst dX3_begins_1 rfl ?_
  refine JW.mputI dX3_begins_2 (pX3_129 _) rfl ?_
  refine JW.steq (s2 := sS (sS (sS (sS (sS (sS (sS s 7 k7) 8 k8) 9 k9) 10 k10) 11 k11) 12 0) 13 k13) (by simp only [sA_A, sS_S, sA_S, sA_lt, sS_lt, Nat.reduceLT, id_eq] <;> rfl) ?_
  refine JW.aload_n dX3_begins_5 rfl ?_
  refine JW.iconst dX3_begins_6 rfl ?_
  refine JW.mputI dX3_begins_7 (pX3_132 _) rfl ?_
  refine JW.steq (s2 := sS (sS (sS (sS (sS (sS (sS s 7 k7) 8 k8) 9 k9) 10 k10) 11 k11) 12 0) 13 (-1)) (by simp only [sA_A, sS_S, sA_S, sA_lt, sS_lt, Nat.reduceLT, id_eq] <;> rfl) ?_
  refine JW.aload_n dX3_begins_10 rfl ?_
  refine JW.iconst dX3_begins_11 rfl ?_
  refine JW.mputI dX3_begins_12 (pX3_101 _) rfl ?_
  refine JW.steq (s2 := sS (sS (sS (sS (sS (sS (sS s 7 0) 8 k8) 9 k9) 10 k10) 11 k11) 12 0) 13 (-1)) (by simp only [sA_A, sS_S, sA_S, sA_lt, sS_lt, Nat.reduceLT, id_eq] <;> rfl) ?_
  refine JW.aload_n dX3_begins_15 rfl ?_
  obtain ⟨o_1, K⟩ := K
  refine JW.mcall (As := []) dX3_begins_16 vX3_next rfl q1674 (ctX3_next b (sS (sS (sS (sS (sS (sS (sS s 7 0) 8 k8) 9 k9) 10 k10) 11 k11) 12 0) 13 (-1)) o_1) (Nat.le_of_ble_eq_true rfl) rfl (Nat.le_of_ble_eq_true rfl) ?_
  rintro _ _ ⟨rfl, rfl⟩
  refine JW.steq (s2 := sS (sS (sS (sS (sS (sS (sS s 7 (enx (s.2 4) (s.1 6) (0 : Int))) 8 (knd (s.2 4) (s.1 6) (0 : Int))) 9 (plc (s.2 4) (s.1 6) (0 : Int))) 10 (vlu (s.2 4) (s.1 6) (0 : Int))) 11 (wrd (s.2 4) (s.1 6) (0 : Int))) 12 0) 13 (-1)) (by simp only [sA_A, sS_S, sA_S, sA_lt, sS_lt, Nat.reduceLT, id_eq] <;> rfl) ?_
  exact JW.vreturn dX3_begins_19 rfl ⟨_, rfl, K⟩
def QX3_begins (s : MS) : Option AV → MS → Prop := fun v s' => v = none ∧ s' = sS (sS (sS (sS (sS (sS (sS s 7 (enx (s.2 4) (s.1 6) 0)) 8 (knd (s.2 4) (s.1 6) 0)) 9 (plc (s.2 4) (s.1 6) 0)) 10 (vlu (s.2 4) (s.1 6) 0)) 11 (wrd (s.2 4) (s.1 6) 0)) 12 (0)) 13 (-1)
theorem vX3_begins_1 (s : MS) (hp : 0 ≤ (s.1 6) ∧ (s.1 6) ≤ 800) : (0 ≤ (0 : Int) ∧ (0 : Int) ≤ (s.1 6) ∧ (s.1 6) ≤ 800) := by
  (try unfold lex3)
  (try simp only [bI_0, bI_n, Classical.not_not] at *)
  (try simp (disch := omega) only [i32_id] at *)
  first | done | omega | ((repeat' (with_reducible apply And.intro)) <;> first | assumption | rfl | omega | grind [upI])
theorem vX3_begins_2 (s : MS) (hp : 0 ≤ (s.1 6) ∧ (s.1 6) ≤ 800) (o_1 : (0 ≤ (0 : Int) ∧ (0 : Int) ≤ (s.1 6) ∧ (s.1 6) ≤ 800)) : (enx (s.2 4) (s.1 6) (0 : Int)) = (enx (s.2 4) (s.1 6) 0) := by
  (try unfold lex3)
  (try simp only [bI_0, bI_n, Classical.not_not] at *)
  (try simp (disch := omega) only [i32_id] at *)
  first | done | omega | ((repeat' (with_reducible apply And.intro)) <;> first | assumption | rfl | omega | grind [upI])
theorem vX3_begins_3 (s : MS) (hp : 0 ≤ (s.1 6) ∧ (s.1 6) ≤ 800) (o_1 : (0 ≤ (0 : Int) ∧ (0 : Int) ≤ (s.1 6) ∧ (s.1 6) ≤ 800)) : (knd (s.2 4) (s.1 6) (0 : Int)) = (knd (s.2 4) (s.1 6) 0) := by
  (try unfold lex3)
  (try simp only [bI_0, bI_n, Classical.not_not] at *)
  (try simp (disch := omega) only [i32_id] at *)
  first | done | omega | ((repeat' (with_reducible apply And.intro)) <;> first | assumption | rfl | omega | grind [upI])
theorem vX3_begins_4 (s : MS) (hp : 0 ≤ (s.1 6) ∧ (s.1 6) ≤ 800) (o_1 : (0 ≤ (0 : Int) ∧ (0 : Int) ≤ (s.1 6) ∧ (s.1 6) ≤ 800)) : (plc (s.2 4) (s.1 6) (0 : Int)) = (plc (s.2 4) (s.1 6) 0) := by
  (try unfold lex3)
  (try simp only [bI_0, bI_n, Classical.not_not] at *)
  (try simp (disch := omega) only [i32_id] at *)
  first | done | omega | ((repeat' (with_reducible apply And.intro)) <;> first | assumption | rfl | omega | grind [upI])
theorem vX3_begins_5 (s : MS) (hp : 0 ≤ (s.1 6) ∧ (s.1 6) ≤ 800) (o_1 : (0 ≤ (0 : Int) ∧ (0 : Int) ≤ (s.1 6) ∧ (s.1 6) ≤ 800)) : (vlu (s.2 4) (s.1 6) (0 : Int)) = (vlu (s.2 4) (s.1 6) 0) := by
  (try unfold lex3)
  (try simp only [bI_0, bI_n, Classical.not_not] at *)
  (try simp (disch := omega) only [i32_id] at *)
  first | done | omega | ((repeat' (with_reducible apply And.intro)) <;> first | assumption | rfl | omega | grind [upI])
theorem vX3_begins_6 (s : MS) (hp : 0 ≤ (s.1 6) ∧ (s.1 6) ≤ 800) (o_1 : (0 ≤ (0 : Int) ∧ (0 : Int) ≤ (s.1 6) ∧ (s.1 6) ≤ 800)) : (wrd (s.2 4) (s.1 6) (0 : Int)) = (wrd (s.2 4) (s.1 6) 0) := by
  (try unfold lex3)
  (try simp only [bI_0, bI_n, Classical.not_not] at *)
  (try simp (disch := omega) only [i32_id] at *)
  first | done | omega | ((repeat' (with_reducible apply And.intro)) <;> first | assumption | rfl | omega | grind [upI])
theorem ctX3_begins (b : AH) (s : MS) (hp : 0 ≤ (s.1 6) ∧ (s.1 6) ≤ 800) : MC mX3_begins 3 b s [] (QX3_begins s) := by
  refine MC.of (by decide) rfl (Nat.le_of_ble_eq_true rfl) (JW.steq (s2 := sS (sS (sS (sS (sS (sS (sS s 7 (s.1 7)) 8 (s.1 8)) 9 (s.1 9)) 10 (s.1 10)) 11 (s.1 11)) 12 (s.1 12)) 13 (s.1 13)) (by simp only [sA_id, sS_id]) ?_)
  refine bX3_begins_0 b s (s.1 7) (s.1 8) (s.1 9) (s.1 10) (s.1 11) (s.1 12) (s.1 13) ?_
  have o_1 : (0 ≤ (0 : Int) ∧ (0 : Int) ≤ (s.1 6) ∧ (s.1 6) ≤ 800) := (vX3_begins_1 s hp)
  refine ⟨o_1, ?_⟩
  exact ⟨rfl, (sS_c (sS_c (sS_c (sS_c (sS_c (sS_c (sS_c rfl (vX3_begins_2 s hp o_1)) (vX3_begins_3 s hp o_1)) (vX3_begins_4 s hp o_1)) (vX3_begins_5 s hp o_1)) (vX3_begins_6 s hp o_1)) rfl) rfl)⟩
