/-! contracts of the component: isIn isOneOf isSeed isSlot isTable isNumber lays trades turns sorts joined@1 joined@21 -/
set_option maxRecDepth 100000
def HX0_isIn_0 (Q : Option AV → MS → Prop) (b : AH) (s : MS) (x0 : Int) (x2 : Int) (x4 : Int) : Prop := XM mX0_isIn 1 Q b 0 [(0, vL x0), (2, vL x2), (4, vL x4)] [] s
theorem bX0_isIn_0 {Q : Option AV → MS → Prop} (b : AH) (s : MS) (x0 : Int) (x2 : Int) (x4 : Int) (K : ((jcmp x0 x2) < 0 → Q (some (vI 0)) s) ∧ (¬ (jcmp x0 x2) < 0 → (0 < (jcmp x0 x4) → Q (some (vI 0)) s) ∧ (¬ 0 < (jcmp x0 x4) → Q (some (vI 1)) s))) : HX0_isIn_0 Q b s x0 x2 x4 := by
  refine JW.lload_n dX0_isIn_0 rfl ?_
  refine JW.lload_n dX0_isIn_1 rfl ?_
  refine JW.lcmp dX0_isIn_2 ?_
  refine JW.if_lt (tgt := 17) dX0_isIn_3 rfl (fun c_1 => ?_) (fun c_1 => ?_)
  · have K := K.1 c_1
    refine JW.iconst dX0_isIn_17 rfl ?_
    exact JW.zreturn dX0_isIn_18 rfl (Or.inl rfl) ⟨_, rfl, K⟩
  · have K := K.2 c_1
    refine JW.lload_n dX0_isIn_6 rfl ?_
    refine JW.lload dX0_isIn_7 rfl ?_
    refine JW.lcmp dX0_isIn_9 ?_
    refine JW.if_gt (tgt := 17) dX0_isIn_10 rfl (fun c_2 => ?_) (fun c_2 => ?_)
    · have K := K.1 c_2
      refine JW.iconst dX0_isIn_17 rfl ?_
      exact JW.zreturn dX0_isIn_18 rfl (Or.inl rfl) ⟨_, rfl, K⟩
    · have K := K.2 c_2
      refine JW.iconst dX0_isIn_13 rfl ?_
      refine JW.goto (tgt := 18) dX0_isIn_14 rfl ?_
      exact JW.zreturn dX0_isIn_18 rfl (Or.inr rfl) ⟨_, rfl, K⟩
def QX0_isIn (s : MS) (a1 : Int) (a2 : Int) (a3 : Int) : Option AV → MS → Prop := fun v s' => v = some (vI (bI (a2 ≤ a1 ∧ a1 ≤ a3))) ∧ s' = s
theorem vX0_isIn_1 (s : MS) (a1 : Int) (a2 : Int) (a3 : Int) (c_1 : (jcmp a1 a2) < 0) : 0 = (bI (a2 ≤ a1 ∧ a1 ≤ a3)) := by
  simp only [jlt, jgt, jle, jge] at *
  unfold bI
  grind
theorem vX0_isIn_2 (s : MS) (a1 : Int) (a2 : Int) (a3 : Int) (c_1 : ¬ (jcmp a1 a2) < 0) (c_2 : 0 < (jcmp a1 a3)) : 0 = (bI (a2 ≤ a1 ∧ a1 ≤ a3)) := by
  simp only [jlt, jgt, jle, jge] at *
  unfold bI
  grind
theorem vX0_isIn_3 (s : MS) (a1 : Int) (a2 : Int) (a3 : Int) (c_1 : ¬ (jcmp a1 a2) < 0) (c_2 : ¬ 0 < (jcmp a1 a3)) : 1 = (bI (a2 ≤ a1 ∧ a1 ≤ a3)) := by
  simp only [jlt, jgt, jle, jge] at *
  unfold bI
  grind
theorem ctX0_isIn (b : AH) (s : MS) (a1 : Int) (a2 : Int) (a3 : Int) : XCS mX0_isIn 1 b s [vL a1, vL a2, vL a3] (QX0_isIn s a1 a2 a3) := by
  refine XCS.of (by decide) rfl (Nat.le_of_ble_eq_true rfl) ?_
  refine bX0_isIn_0 b s a1 a2 a3 ?_
  refine ⟨fun c_1 => ?_, fun c_1 => ?_⟩
  · exact ⟨(rI_c (vX0_isIn_1 s a1 a2 a3 c_1)), rfl⟩
  · refine ⟨fun c_2 => ?_, fun c_2 => ?_⟩
    · exact ⟨(rI_c (vX0_isIn_2 s a1 a2 a3 c_1 c_2)), rfl⟩
    · exact ⟨(rI_c (vX0_isIn_3 s a1 a2 a3 c_1 c_2)), rfl⟩
def HX0_isOneOf_0 (Q : Option AV → MS → Prop) (b : AH) (s : MS) (x0 : Int) (x1 : Int) : Prop := XM mX0_isOneOf 2 Q b 0 [(0, vI x0), (1, vI x1)] [] s
theorem bX0_isOneOf_0 {Q : Option AV → MS → Prop} (b : AH) (s : MS) (x0 : Int) (x1 : Int) (K : Q (some (vI (bI ((0 : Int) ≤ x0 ∧ x0 ≤ (i32 (x1 - 1)))))) s) : HX0_isOneOf_0 Q b s x0 x1 := by
  refine JW.iload_n dX0_isOneOf_0 rfl ?_
  refine JW.i2l dX0_isOneOf_1 ?_
  refine JW.lconst (x := 0) dX0_isOneOf_2 rfl ?_
  refine JW.iload_n dX0_isOneOf_3 rfl ?_
  refine JW.iconst dX0_isOneOf_4 rfl ?_
  refine JW.isub dX0_isOneOf_5 ?_
  refine JW.i2l dX0_isOneOf_6 ?_
  refine JW.xcallS (As := [vL x0, vL 0, vL (i32 (x1 - 1))]) dX0_isOneOf_7 vX0_isIn q401 (ctX0_isIn b s x0 0 (i32 (x1 - 1))) (Nat.le_of_ble_eq_true rfl) rfl (Nat.le_of_ble_eq_true rfl) ?_
  rintro _ _ ⟨rfl, eq_1⟩
  refine JW.xsteq (s2 := s) eq_1 ?_
  exact JW.zreturn dX0_isOneOf_10 rfl (bI_01 _) ⟨_, rfl, K⟩
def QX0_isOneOf (s : MS) (a1 : Int) (a2 : Int) : Option AV → MS → Prop := fun v s' => v = some (vI (bI (0 ≤ a1 ∧ a1 < a2))) ∧ s' = s
theorem vX0_isOneOf_1 (s : MS) (a1 : Int) (a2 : Int) (hp : 0 ≤ a2 ∧ a2 ≤ 1000000) : (bI ((0 : Int) ≤ a1 ∧ a1 ≤ (i32 (a2 - 1)))) = (bI (0 ≤ a1 ∧ a1 < a2)) := by
  rw [i32_id (by omega) (by omega)]
  exact bI_c (by omega)
theorem ctX0_isOneOf (b : AH) (s : MS) (a1 : Int) (a2 : Int) (hp : 0 ≤ a2 ∧ a2 ≤ 1000000) : XCS mX0_isOneOf 2 b s [vI a1, vI a2] (QX0_isOneOf s a1 a2) := by
  refine XCS.of (by decide) rfl (Nat.le_of_ble_eq_true rfl) ?_
  refine bX0_isOneOf_0 b s a1 a2 ?_
  exact ⟨(rI_c (vX0_isOneOf_1 s a1 a2 hp)), rfl⟩
def HX0_isSeed_0 (Q : Option AV → MS → Prop) (b : AH) (s : MS) (x0 : Int) : Prop := XM mX0_isSeed 2 Q b 0 [(0, vI x0)] [] s
theorem bX0_isSeed_0 {Q : Option AV → MS → Prop} (b : AH) (s : MS) (x0 : Int) (K : Q (some (vI (bI ((0 : Int) ≤ x0 ∧ x0 ≤ (2000000000 : Int))))) s) : HX0_isSeed_0 Q b s x0 := by
  refine JW.iload_n dX0_isSeed_0 rfl ?_
  refine JW.i2l dX0_isSeed_1 ?_
  refine JW.lconst (x := 0) dX0_isSeed_2 rfl ?_
  refine JW.ldc2 (x := 2000000000) dX0_isSeed_3 q1325 rfl ?_
  refine JW.xcallS (As := [vL x0, vL 0, vL 2000000000]) dX0_isSeed_6 vX0_isIn q401 (ctX0_isIn b s x0 0 2000000000) (Nat.le_of_ble_eq_true rfl) rfl (Nat.le_of_ble_eq_true rfl) ?_
  rintro _ _ ⟨rfl, eq_1⟩
  refine JW.xsteq (s2 := s) eq_1 ?_
  exact JW.zreturn dX0_isSeed_9 rfl (bI_01 _) ⟨_, rfl, K⟩
def QX0_isSeed (s : MS) (a1 : Int) : Option AV → MS → Prop := fun v s' => v = some (vI (bI (0 ≤ a1 ∧ a1 ≤ 2000000000))) ∧ s' = s
theorem vX0_isSeed_1 (s : MS) (a1 : Int) : (bI ((0 : Int) ≤ a1 ∧ a1 ≤ (2000000000 : Int))) = (bI (0 ≤ a1 ∧ a1 ≤ 2000000000)) := by
  (try unfold lex3)
  (try simp only [bI_0, bI_n, Classical.not_not] at *)
  (try simp (disch := omega) only [i32_id] at *)
  first | done | omega | ((repeat' (with_reducible apply And.intro)) <;> first | assumption | rfl | omega | grind [upI])
theorem ctX0_isSeed (b : AH) (s : MS) (a1 : Int) : XCS mX0_isSeed 2 b s [vI a1] (QX0_isSeed s a1) := by
  refine XCS.of (by decide) rfl (Nat.le_of_ble_eq_true rfl) ?_
  refine bX0_isSeed_0 b s a1 ?_
  exact ⟨(rI_c (vX0_isSeed_1 s a1)), rfl⟩
def HX0_isSlot_0 (Q : Option AV → MS → Prop) (b : AH) (s : MS) (x0 : Int) : Prop := XM mX0_isSlot 2 Q b 0 [(0, vI x0)] [] s
theorem bX0_isSlot_0 {Q : Option AV → MS → Prop} (b : AH) (s : MS) (x0 : Int) (K : Q (some (vI (bI ((0 : Int) ≤ x0 ∧ x0 ≤ (3 : Int))))) s) : HX0_isSlot_0 Q b s x0 := by
  refine JW.iload_n dX0_isSlot_0 rfl ?_
  refine JW.i2l dX0_isSlot_1 ?_
  refine JW.lconst (x := 0) dX0_isSlot_2 rfl ?_
  refine JW.ldc2 (x := 3) dX0_isSlot_3 q1379 rfl ?_
  refine JW.xcallS (As := [vL x0, vL 0, vL 3]) dX0_isSlot_6 vX0_isIn q401 (ctX0_isIn b s x0 0 3) (Nat.le_of_ble_eq_true rfl) rfl (Nat.le_of_ble_eq_true rfl) ?_
  rintro _ _ ⟨rfl, eq_1⟩
  refine JW.xsteq (s2 := s) eq_1 ?_
  exact JW.zreturn dX0_isSlot_9 rfl (bI_01 _) ⟨_, rfl, K⟩
def QX0_isSlot (s : MS) (a1 : Int) : Option AV → MS → Prop := fun v s' => v = some (vI (bI (0 ≤ a1 ∧ a1 ≤ 3))) ∧ s' = s
theorem vX0_isSlot_1 (s : MS) (a1 : Int) : (bI ((0 : Int) ≤ a1 ∧ a1 ≤ (3 : Int))) = (bI (0 ≤ a1 ∧ a1 ≤ 3)) := by
  (try unfold lex3)
  (try simp only [bI_0, bI_n, Classical.not_not] at *)
  (try simp (disch := omega) only [i32_id] at *)
  first | done | omega | ((repeat' (with_reducible apply And.intro)) <;> first | assumption | rfl | omega | grind [upI])
theorem ctX0_isSlot (b : AH) (s : MS) (a1 : Int) : XCS mX0_isSlot 2 b s [vI a1] (QX0_isSlot s a1) := by
  refine XCS.of (by decide) rfl (Nat.le_of_ble_eq_true rfl) ?_
  refine bX0_isSlot_0 b s a1 ?_
  exact ⟨(rI_c (vX0_isSlot_1 s a1)), rfl⟩
def HX0_isTable_0 (Q : Option AV → MS → Prop) (b : AH) (s : MS) (t : Nat → Int → Int) : Prop := XM mX0_isTable 1 Q b 0 [(0, vR 320)] [] s
theorem bX0_isTable_0 {Q : Option AV → MS → Prop} (b : AH) (s : MS) (t : Nat → Int → Int) (hT : XTs b s t) (K : ((t 0 0) ≤ 0 → Q (some (vI 0)) s) ∧ (¬ (t 0 0) ≤ 0 → Q (some (vI 1)) s)) : HX0_isTable_0 Q b s t  := by
  refine JW.aload_n dX0_isTable_0 rfl ?_
  refine JW.xtab (y := s.1 3) hT dX0_isTable_1 fX0_48 rfl ?_
  refine JW.tget hT.2 dX0_isTable_4 fX0_62 (by decide) hT.2.2.2.1.1 ?_
  refine JW.if_le (tgt := 14) dX0_isTable_7 rfl (fun c_1 => ?_) (fun c_1 => ?_)
  · have K := K.1 c_1
    refine JW.iconst dX0_isTable_14 rfl ?_
    exact JW.zreturn dX0_isTable_15 rfl (Or.inl rfl) ⟨_, rfl, K⟩
  · have K := K.2 c_1
    refine JW.iconst dX0_isTable_10 rfl ?_
    refine JW.goto (tgt := 15) dX0_isTable_11 rfl ?_
    exact JW.zreturn dX0_isTable_15 rfl (Or.inr rfl) ⟨_, rfl, K⟩
def QX0_isTable (s : MS) (t : Nat → Int → Int) : Option AV → MS → Prop := fun v s' => v = some (vI (bI (0 < t 0 0))) ∧ s' = s
theorem vX0_isTable_1 (s : MS) (t : Nat → Int → Int) (c_1 : (t 0 0) ≤ 0) : 0 = (bI (0 < t 0 0)) := by
  (try unfold lex3)
  (try simp only [bI_0, bI_n, Classical.not_not] at *)
  (try simp (disch := omega) only [i32_id] at *)
  first | done | omega | ((repeat' (with_reducible apply And.intro)) <;> first | assumption | rfl | omega | (rw [bI_f (by omega)]) | (rw [bI_t (by omega)]) | grind [upI])
theorem vX0_isTable_2 (s : MS) (t : Nat → Int → Int) (c_1 : ¬ (t 0 0) ≤ 0) : 1 = (bI (0 < t 0 0)) := by
  (try unfold lex3)
  (try simp only [bI_0, bI_n, Classical.not_not] at *)
  (try simp (disch := omega) only [i32_id] at *)
  first | done | omega | ((repeat' (with_reducible apply And.intro)) <;> first | assumption | rfl | omega | (rw [bI_f (by omega)]) | (rw [bI_t (by omega)]) | grind [upI])
theorem ctX0_isTable (b : AH) (s : MS) (t : Nat → Int → Int) (hT : XTs b s t) : XC mX0_isTable 1 b s [] (QX0_isTable s t) := by
  refine XC.of (by decide) rfl (Nat.le_of_ble_eq_true rfl) ?_
  refine bX0_isTable_0 b s t  hT ?_
  refine ⟨fun c_1 => ?_, fun c_1 => ?_⟩
  · exact ⟨(rI_c (vX0_isTable_1 s t c_1)), rfl⟩
  · exact ⟨(rI_c (vX0_isTable_2 s t c_1)), rfl⟩
def HX0_isNumber_0 (Q : Option AV → MS → Prop) (b : AH) (s : MS) (t : Nat → Int → Int) (x1 : Int) : Prop := XM mX0_isNumber 2 Q b 0 [(0, vR 320), (1, vL x1)] [] s
theorem bX0_isNumber_0 {Q : Option AV → MS → Prop} (b : AH) (s : MS) (t : Nat → Int → Int) (x1 : Int) (hT : XTs b s t) (K : Q (some (vI (bI ((0 : Int) ≤ x1 ∧ x1 ≤ (i32 ((t 0 2) - 1)))))) s) : HX0_isNumber_0 Q b s t x1 := by
  refine JW.lload_n dX0_isNumber_0 rfl ?_
  refine JW.lconst (x := 0) dX0_isNumber_1 rfl ?_
  refine JW.aload_n dX0_isNumber_2 rfl ?_
  refine JW.xtab (y := s.1 3) hT dX0_isNumber_3 fX0_48 rfl ?_
  refine JW.tget hT.2 dX0_isNumber_6 fX0_201 (by decide) hT.2.2.2.1.2.2.1 ?_
  refine JW.iconst dX0_isNumber_9 rfl ?_
  refine JW.isub dX0_isNumber_10 ?_
  refine JW.i2l dX0_isNumber_11 ?_
  refine JW.xcallS (As := [vL x1, vL 0, vL (i32 ((t 0 2) - 1))]) dX0_isNumber_12 vX0_isIn q401 (ctX0_isIn b s x1 0 (i32 ((t 0 2) - 1))) (Nat.le_of_ble_eq_true rfl) rfl (Nat.le_of_ble_eq_true rfl) ?_
  rintro _ _ ⟨rfl, eq_1⟩
  refine JW.xsteq (s2 := s) eq_1 ?_
  exact JW.zreturn dX0_isNumber_15 rfl (bI_01 _) ⟨_, rfl, K⟩
def QX0_isNumber (s : MS) (t : Nat → Int → Int) (a1 : Int) : Option AV → MS → Prop := fun v s' => v = some (vI (bI (0 ≤ a1 ∧ a1 < t 0 2))) ∧ s' = s
theorem vX0_isNumber_1 (s : MS) (t : Nat → Int → Int) (a1 : Int) (hp : tOK (t 0)) : (bI ((0 : Int) ≤ a1 ∧ a1 ≤ (i32 ((t 0 2) - 1)))) = (bI (0 ≤ a1 ∧ a1 < t 0 2)) := by
  have hN := tOK_N hp
  rw [i32_id (by omega) (by omega)]
  exact bI_c (by omega)
theorem ctX0_isNumber (b : AH) (s : MS) (t : Nat → Int → Int) (a1 : Int) (hT : XTs b s t) (hp : tOK (t 0)) : XC mX0_isNumber 2 b s [vL a1] (QX0_isNumber s t a1) := by
  refine XC.of (by decide) rfl (Nat.le_of_ble_eq_true rfl) ?_
  refine bX0_isNumber_0 b s t a1 hT ?_
  exact ⟨(rI_c (vX0_isNumber_1 s t a1 hp)), rfl⟩
def HX0_lays_0 (Q : Option AV → MS → Prop) (b : AH) (s : MS) (t : Nat → Int → Int) (x1 : Int) (f1 : Int → Int) : Prop := XM mX0_lays 1 Q b 0 [(0, vR 320), (1, vI x1)] [] (sA s 1 f1)
def HX0_lays_12 (Q : Option AV → MS → Prop) (b : AH) (s : MS) (t : Nat → Int → Int) (x2 : Int) (x3 : Int) (f1 : Int → Int) : Prop := XM mX0_lays 1 Q b 12 [(0, vR 320), (2, vI x2), (3, vI x3)] [] (sA s 1 f1)
theorem bX0_lays_0 {Q : Option AV → MS → Prop} (b : AH) (s : MS) (t : Nat → Int → Int) (x1 : Int) (f1 : Int → Int) (hT : XTs b s t) (K : HX0_lays_12 Q b s t x1 (i32 ((t 0 1) - 1)) f1) : HX0_lays_0 Q b s t x1 f1 := by
  refine JW.iload_n dX0_lays_0 rfl ?_
  refine JW.istore_n (ls' := [(0, vR 320), (1, vI x1), (2, vI x1)]) dX0_lays_1 (Nat.le_of_ble_eq_true rfl) rfl ?_
  refine JW.aload_n dX0_lays_2 rfl ?_
  refine JW.xtab (y := s.1 3) hT dX0_lays_3 fX0_48 rfl ?_
  refine JW.tget hT.2 dX0_lays_6 fX0_52 (by decide) hT.2.2.2.1.2.1 ?_
  refine JW.iconst dX0_lays_9 rfl ?_
  refine JW.isub dX0_lays_10 ?_
  refine JW.istore_n (ls' := [(0, vR 320), (1, vI x1), (2, vI x1), (3, vI (i32 ((t 0 1) - 1)))]) dX0_lays_11 (Nat.le_of_ble_eq_true rfl) rfl ?_
  exact JW.pick [0, 2, 3] rfl K
theorem bX0_lays_12 {Q : Option AV → MS → Prop} (b : AH) (s : MS) (t : Nat → Int → Int) (x2 : Int) (x3 : Int) (f1 : Int → Int) (hT : XTs b s t) (K : (x3 < 0 → Q none (sA s 1 f1)) ∧ (¬ x3 < 0 → (t 0 0) ≠ 0 ∧ ((0 ≤ x3 ∧ x3 < 8) ∧ (HX0_lays_12 Q b s t (i32 (Int.tdiv x2 (t 0 0))) (i32 (x3 + (-1))) (upI f1 x3 (i32 (Int.tmod x2 (t 0 0)))))))) : HX0_lays_12 Q b s t x2 x3 f1 := by
  refine JW.iload_n dX0_lays_12 rfl ?_
  refine JW.if_lt (tgt := 47) dX0_lays_13 rfl (fun c_1 => ?_) (fun c_1 => ?_)
  · have K := K.1 c_1
    exact JW.vreturn dX0_lays_47 rfl ⟨_, rfl, K⟩
  · have K := K.2 c_1
    refine JW.aload_n dX0_lays_16 rfl ?_
    refine JW.xget (v := vR 322) dX0_lays_17 fX0_58 rfl ?_
    refine JW.iload_n dX0_lays_20 rfl ?_
    refine JW.iload_n dX0_lays_21 rfl ?_
    refine JW.aload_n dX0_lays_22 rfl ?_
    refine JW.xtab (y := s.1 3) hT dX0_lays_23 fX0_48 rfl ?_
    refine JW.tget hT.2 dX0_lays_26 fX0_62 (by decide) hT.2.2.2.1.1 ?_
    obtain ⟨o_2, K⟩ := K
    refine JW.irem dX0_lays_29 o_2 ?_
    obtain ⟨o_3, K⟩ := K
    refine JW.xast 1 (f := f1) dX0_lays_30 (by decide) rfl o_3.1 o_3.2 rfl ?_
    refine JW.xsteq (s2 := sA s 1 (upI f1 x3 (i32 (Int.tmod x2 (t 0 0))))) (by simp only [sA_A, sS_S, sA_S, sA_lt, sS_lt, Nat.reduceLT, id_eq] <;> rfl) ?_
    refine JW.iload_n dX0_lays_31 rfl ?_
    refine JW.aload_n dX0_lays_32 rfl ?_
    refine JW.xtab (y := s.1 3) hT dX0_lays_33 fX0_48 rfl ?_
    refine JW.tget hT.2 dX0_lays_36 fX0_62 (by decide) hT.2.2.2.1.1 ?_
    refine JW.idiv dX0_lays_39 o_2 ?_
    refine JW.istore_n (ls' := [(0, vR 320), (2, vI (i32 (Int.tdiv x2 (t 0 0)))), (3, vI x3)]) dX0_lays_40 (Nat.le_of_ble_eq_true rfl) rfl ?_
    refine JW.iinc (ls' := [(0, vR 320), (2, vI (i32 (Int.tdiv x2 (t 0 0)))), (3, vI (i32 (x3 + (-1))))]) dX0_lays_41 (Nat.le_of_ble_eq_true rfl) rfl rfl ?_
    refine JW.goto (tgt := 12) dX0_lays_44 rfl ?_
    exact JW.pick [0, 2, 3] rfl K
def QX0_lays (s : MS) (t : Nat → Int → Int) (a1 : Int) : Option AV → MS → Prop := fun v s' => v = none ∧ s' = sA s 1 (figs ((t 0) 0) ((t 0) 1) a1 (s.2 1))
theorem vX0_lays_1 (s : MS) (t : Nat → Int → Int) (a1 : Int) (hp : tOK (t 0) ∧ 0 ≤ a1 ∧ a1 ≤ 100000) (x2 : Int) (x3 : Int) (f1 : Int → Int) (hI : (-1 ≤ x3 ∧ x3 < t 0 1) ∧ x2 = a1 / t 0 0 ^ (t 0 1 - 1 - x3).toNat ∧ f1 = (fun z => if x3 < z ∧ z < t 0 1 then dig (t 0 0) (t 0 1) a1 z else s.2 1 z)) (c_1 : x3 < 0) : f1 = (figs ((t 0) 0) ((t 0) 1) a1 (s.2 1)) := by
  obtain ⟨ht, h0, h1⟩ := hp
  have hL := tOK_L ht
  have hB := tOK_B ht
  have hN := tOK_N ht
  (try unfold lex3)
  (try simp only [bI_0, bI_n, Classical.not_not] at *)
  (try simp (disch := omega) only [i32_id] at *)
  first | done | omega | ((repeat' (with_reducible apply And.intro)) <;> first | assumption | rfl | omega | grind [upI, figs])
theorem vX0_lays_2 (s : MS) (t : Nat → Int → Int) (a1 : Int) (hp : tOK (t 0) ∧ 0 ≤ a1 ∧ a1 ≤ 100000) (x2 : Int) (x3 : Int) (f1 : Int → Int) (hI : (-1 ≤ x3 ∧ x3 < t 0 1) ∧ x2 = a1 / t 0 0 ^ (t 0 1 - 1 - x3).toNat ∧ f1 = (fun z => if x3 < z ∧ z < t 0 1 then dig (t 0 0) (t 0 1) a1 z else s.2 1 z)) (c_1 : ¬ x3 < 0) : (t 0 0) ≠ 0 := by
  obtain ⟨ht, h0, h1⟩ := hp
  have hL := tOK_L ht
  have hB := tOK_B ht
  have hN := tOK_N ht
  have := tOK_B2 ht (by omega)
  omega
theorem vX0_lays_3 (s : MS) (t : Nat → Int → Int) (a1 : Int) (hp : tOK (t 0) ∧ 0 ≤ a1 ∧ a1 ≤ 100000) (x2 : Int) (x3 : Int) (f1 : Int → Int) (hI : (-1 ≤ x3 ∧ x3 < t 0 1) ∧ x2 = a1 / t 0 0 ^ (t 0 1 - 1 - x3).toNat ∧ f1 = (fun z => if x3 < z ∧ z < t 0 1 then dig (t 0 0) (t 0 1) a1 z else s.2 1 z)) (c_1 : ¬ x3 < 0) (o_2 : (t 0 0) ≠ 0) : (0 ≤ x3 ∧ x3 < 8) := by
  obtain ⟨ht, h0, h1⟩ := hp
  have hL := tOK_L ht
  have hB := tOK_B ht
  have hN := tOK_N ht
  (try unfold lex3)
  (try simp only [bI_0, bI_n, Classical.not_not] at *)
  (try simp (disch := omega) only [i32_id] at *)
  first | done | omega | ((repeat' (with_reducible apply And.intro)) <;> first | assumption | rfl | omega | grind [upI, figs])
theorem vX0_lays_4 (s : MS) (t : Nat → Int → Int) (a1 : Int) (hp : tOK (t 0) ∧ 0 ≤ a1 ∧ a1 ≤ 100000) (x2 : Int) (x3 : Int) (f1 : Int → Int) (hI : (-1 ≤ x3 ∧ x3 < t 0 1) ∧ x2 = a1 / t 0 0 ^ (t 0 1 - 1 - x3).toNat ∧ f1 = (fun z => if x3 < z ∧ z < t 0 1 then dig (t 0 0) (t 0 1) a1 z else s.2 1 z)) (c_1 : ¬ x3 < 0) (o_2 : (t 0 0) ≠ 0) (o_3 : (0 ≤ x3 ∧ x3 < 8)) : (-1 ≤ (i32 (x3 + (-1))) ∧ (i32 (x3 + (-1))) < t 0 1) ∧ (i32 (Int.tdiv x2 (t 0 0))) = a1 / t 0 0 ^ (t 0 1 - 1 - (i32 (x3 + (-1)))).toNat ∧ (upI f1 x3 (i32 (Int.tmod x2 (t 0 0)))) = (fun z => if (i32 (x3 + (-1))) < z ∧ z < t 0 1 then dig (t 0 0) (t 0 1) a1 z else s.2 1 z) := by
  obtain ⟨ht, h0, h1⟩ := hp
  have hL := tOK_L ht
  have hB := tOK_B ht
  have hN := tOK_N ht
  obtain ⟨⟨i0, i1⟩, rfl, rfl⟩ := hI
  have hB2 := tOK_B2 ht (by omega)
  have hd0 : 0 ≤ a1 / t 0 0 ^ (t 0 1 - 1 - x3).toNat := Int.ediv_nonneg h0 (by have := pow_pos' (B := t 0 0) (by omega) (t 0 1 - 1 - x3).toNat; omega)
  have hd1 : a1 / t 0 0 ^ (t 0 1 - 1 - x3).toNat ≤ a1 := Int.ediv_le_self _ h0
  have hm0 := Int.emod_nonneg (a1 / t 0 0 ^ (t 0 1 - 1 - x3).toNat) (b := t 0 0) (by omega)
  have hm1 := Int.emod_lt_of_pos (a1 / t 0 0 ^ (t 0 1 - 1 - x3).toNat) (b := t 0 0) (by omega)
  have hq0 : 0 ≤ a1 / t 0 0 ^ (t 0 1 - 1 - x3).toNat / t 0 0 := Int.ediv_nonneg hd0 (by omega)
  have hq1 : a1 / t 0 0 ^ (t 0 1 - 1 - x3).toNat / t 0 0 ≤ a1 / t 0 0 ^ (t 0 1 - 1 - x3).toNat := Int.ediv_le_self _ hd0
  rw [i32_id (x := x3 + -1) (by omega) (by omega), tdiv_n hd0, tmod_n hd0, i32_s hq0 (by omega), i32_s hm0 (by omega)]
  refine ⟨by omega, ?_, ?_⟩
  · rw [show (t 0 1 - 1 - (x3 + -1)).toNat = (t 0 1 - 1 - x3).toNat + 1 by omega, Int.pow_succ, Int.ediv_ediv_of_nonneg (by have := pow_pos' (B := t 0 0) (by omega) (t 0 1 - 1 - x3).toNat; omega)]
  · show upI _ x3 (dig (t 0 0) (t 0 1) a1 x3) = _
    grind [upI]
theorem vX0_lays_5 (s : MS) (t : Nat → Int → Int) (a1 : Int) (hp : tOK (t 0) ∧ 0 ≤ a1 ∧ a1 ≤ 100000) (x2 : Int) (x3 : Int) (f1 : Int → Int) (hI : (-1 ≤ x3 ∧ x3 < t 0 1) ∧ x2 = a1 / t 0 0 ^ (t 0 1 - 1 - x3).toNat ∧ f1 = (fun z => if x3 < z ∧ z < t 0 1 then dig (t 0 0) (t 0 1) a1 z else s.2 1 z)) (c_1 : ¬ x3 < 0) (o_2 : (t 0 0) ≠ 0) (o_3 : (0 ≤ x3 ∧ x3 < 8)) : lex3 0 0 (((i32 (x3 + (-1))) + 1).toNat) 0 0 ((x3 + 1).toNat) := by
  obtain ⟨ht, h0, h1⟩ := hp
  have hL := tOK_L ht
  have hB := tOK_B ht
  have hN := tOK_N ht
  (try unfold lex3)
  (try simp only [bI_0, bI_n, Classical.not_not] at *)
  (try simp (disch := omega) only [i32_id] at *)
  first | done | omega | ((repeat' (with_reducible apply And.intro)) <;> first | assumption | rfl | omega | grind [upI, figs])
theorem vX0_lays_6 (s : MS) (t : Nat → Int → Int) (a1 : Int) (hp : tOK (t 0) ∧ 0 ≤ a1 ∧ a1 ≤ 100000) : (-1 ≤ (i32 ((t 0 1) - 1)) ∧ (i32 ((t 0 1) - 1)) < t 0 1) ∧ a1 = a1 / t 0 0 ^ (t 0 1 - 1 - (i32 ((t 0 1) - 1))).toNat ∧ (s.2 1) = (fun z => if (i32 ((t 0 1) - 1)) < z ∧ z < t 0 1 then dig (t 0 0) (t 0 1) a1 z else s.2 1 z) := by
  obtain ⟨ht, h0, h1⟩ := hp
  have hL := tOK_L ht
  have hB := tOK_B ht
  have hN := tOK_N ht
  rw [i32_id (by omega) (by omega)]
  refine ⟨by omega, ?_, ?_⟩
  · rw [show (t 0 1 - 1 - (t 0 1 - 1)).toNat = 0 by omega, Int.pow_zero, Int.ediv_one]
  · grind
theorem allX0_lays (b : AH) (s : MS) (t : Nat → Int → Int) (a1 : Int) (hp : tOK (t 0) ∧ 0 ≤ a1 ∧ a1 ≤ 100000) (hT : XTs b s t) : ∀ m1 m2 m3 : Nat, (∀ (x2 : Int) (x3 : Int) (f1 : Int → Int), m1 = 0 → m2 = 0 → m3 = ((x3 + 1).toNat) → ((-1 ≤ x3 ∧ x3 < t 0 1) ∧ x2 = a1 / t 0 0 ^ (t 0 1 - 1 - x3).toNat ∧ f1 = (fun z => if x3 < z ∧ z < t 0 1 then dig (t 0 0) (t 0 1) a1 z else s.2 1 z)) → HX0_lays_12 (QX0_lays s t a1) b s t x2 x3 f1) := by
  refine lex3_ind ?_
  intro m1 m2 m3 ih
  rintro x2 x3 f1 rfl rfl rfl hI
  refine bX0_lays_12 b s t x2 x3 f1 hT ?_
  refine ⟨fun c_1 => ?_, fun c_1 => ?_⟩
  · exact ⟨rfl, (sA_c rfl (vX0_lays_1 s t a1 hp x2 x3 f1 hI c_1))⟩
  · have o_2 : (t 0 0) ≠ 0 := (vX0_lays_2 s t a1 hp x2 x3 f1 hI c_1)
    refine ⟨o_2, ?_⟩
    have o_3 : (0 ≤ x3 ∧ x3 < 8) := (vX0_lays_3 s t a1 hp x2 x3 f1 hI c_1 o_2)
    refine ⟨o_3, ?_⟩
    exact (ih _ _ _ (vX0_lays_5 s t a1 hp x2 x3 f1 hI c_1 o_2 o_3)) (i32 (Int.tdiv x2 (t 0 0))) (i32 (x3 + (-1))) (upI f1 x3 (i32 (Int.tmod x2 (t 0 0)))) rfl rfl rfl (vX0_lays_4 s t a1 hp x2 x3 f1 hI c_1 o_2 o_3)
theorem ctX0_lays (b : AH) (s : MS) (t : Nat → Int → Int) (a1 : Int) (hT : XTs b s t) (hp : tOK (t 0) ∧ 0 ≤ a1 ∧ a1 ≤ 100000) : XC mX0_lays 1 b s [vI a1] (QX0_lays s t a1) := by
  refine XC.of (by decide) rfl (Nat.le_of_ble_eq_true rfl) (JW.xsteq (s2 := sA s 1 (s.2 1)) (by simp only [sA_id, sS_id]) ?_)
  refine bX0_lays_0 b s t a1 (s.2 1) hT ?_
  exact (allX0_lays b s t a1 hp hT _ _ _) a1 (i32 ((t 0 1) - 1)) (s.2 1) rfl rfl rfl (vX0_lays_6 s t a1 hp)
def HX0_trades_0 (Q : Option AV → MS → Prop) (b : AH) (s : MS) (t : Nat → Int → Int) (x1 : Int) (x2 : Int) (f1 : Int → Int) : Prop := XM mX0_trades 1 Q b 0 [(0, vR 320), (1, vI x1), (2, vI x2)] [] (sA s 1 f1)
theorem bX0_trades_0 {Q : Option AV → MS → Prop} (b : AH) (s : MS) (t : Nat → Int → Int) (x1 : Int) (x2 : Int) (f1 : Int → Int) (hT : XTs b s t) (K : (0 ≤ x1 ∧ x1 < 8) ∧ ((0 ≤ x2 ∧ x2 < 8) ∧ (Q none (sA s 1 (upI (upI f1 x1 (f1 x2)) x2 (f1 x1)))))) : HX0_trades_0 Q b s t x1 x2 f1 := by
  refine JW.aload_n dX0_trades_0 rfl ?_
  refine JW.xget (v := vR 322) dX0_trades_1 fX0_58 rfl ?_
  refine JW.iload_n dX0_trades_4 rfl ?_
  obtain ⟨o_1, K⟩ := K
  refine JW.xald 1 (x := (f1 x1)) dX0_trades_5 (by decide) rfl o_1.1 o_1.2 rfl ?_
  refine JW.istore_n (ls' := [(0, vR 320), (1, vI x1), (2, vI x2), (3, vI (f1 x1))]) dX0_trades_6 (Nat.le_of_ble_eq_true rfl) rfl ?_
  refine JW.aload_n dX0_trades_7 rfl ?_
  refine JW.xget (v := vR 322) dX0_trades_8 fX0_58 rfl ?_
  refine JW.iload_n dX0_trades_11 rfl ?_
  refine JW.aload_n dX0_trades_12 rfl ?_
  refine JW.xget (v := vR 322) dX0_trades_13 fX0_58 rfl ?_
  refine JW.iload_n dX0_trades_16 rfl ?_
  obtain ⟨o_2, K⟩ := K
  refine JW.xald 1 (x := (f1 x2)) dX0_trades_17 (by decide) rfl o_2.1 o_2.2 rfl ?_
  refine JW.xast 1 (f := f1) dX0_trades_18 (by decide) rfl o_1.1 o_1.2 rfl ?_
  refine JW.xsteq (s2 := sA s 1 (upI f1 x1 (f1 x2))) (by simp only [sA_A, sS_S, sA_S, sA_lt, sS_lt, Nat.reduceLT, id_eq] <;> rfl) ?_
  refine JW.aload_n dX0_trades_19 rfl ?_
  refine JW.xget (v := vR 322) dX0_trades_20 fX0_58 rfl ?_
  refine JW.iload_n dX0_trades_23 rfl ?_
  refine JW.iload_n dX0_trades_24 rfl ?_
  refine JW.xast 1 (f := (upI f1 x1 (f1 x2))) dX0_trades_25 (by decide) rfl o_2.1 o_2.2 rfl ?_
  refine JW.xsteq (s2 := sA s 1 (upI (upI f1 x1 (f1 x2)) x2 (f1 x1))) (by simp only [sA_A, sS_S, sA_S, sA_lt, sS_lt, Nat.reduceLT, id_eq] <;> rfl) ?_
  exact JW.vreturn dX0_trades_26 rfl ⟨_, rfl, K⟩
def QX0_trades (s : MS) (t : Nat → Int → Int) (a1 : Int) (a2 : Int) : Option AV → MS → Prop := fun v s' => v = none ∧ s' = sA s 1 (upI (upI (s.2 1) a1 ((s.2 1) a2)) a2 ((s.2 1) a1))
theorem vX0_trades_1 (s : MS) (t : Nat → Int → Int) (a1 : Int) (a2 : Int) (hp : (0 ≤ a1 ∧ a1 < 8) ∧ (0 ≤ a2 ∧ a2 < 8)) : (0 ≤ a1 ∧ a1 < 8) := by
  (try unfold lex3)
  (try simp only [bI_0, bI_n, Classical.not_not] at *)
  (try simp (disch := omega) only [i32_id] at *)
  first | done | omega | ((repeat' (with_reducible apply And.intro)) <;> first | assumption | rfl | omega | grind [upI])
theorem vX0_trades_2 (s : MS) (t : Nat → Int → Int) (a1 : Int) (a2 : Int) (hp : (0 ≤ a1 ∧ a1 < 8) ∧ (0 ≤ a2 ∧ a2 < 8)) (o_1 : (0 ≤ a1 ∧ a1 < 8)) : (0 ≤ a2 ∧ a2 < 8) := by
  (try unfold lex3)
  (try simp only [bI_0, bI_n, Classical.not_not] at *)
  (try simp (disch := omega) only [i32_id] at *)
  first | done | omega | ((repeat' (with_reducible apply And.intro)) <;> first | assumption | rfl | omega | grind [upI])
theorem ctX0_trades (b : AH) (s : MS) (t : Nat → Int → Int) (a1 : Int) (a2 : Int) (hT : XTs b s t) (hp : (0 ≤ a1 ∧ a1 < 8) ∧ (0 ≤ a2 ∧ a2 < 8)) : XC mX0_trades 1 b s [vI a1, vI a2] (QX0_trades s t a1 a2) := by
  refine XC.of (by decide) rfl (Nat.le_of_ble_eq_true rfl) (JW.xsteq (s2 := sA s 1 (s.2 1)) (by simp only [sA_id, sS_id]) ?_)
  refine bX0_trades_0 b s t a1 a2 (s.2 1) hT ?_
  have o_1 : (0 ≤ a1 ∧ a1 < 8) := (vX0_trades_1 s t a1 a2 hp)
  refine ⟨o_1, ?_⟩
  have o_2 : (0 ≤ a2 ∧ a2 < 8) := (vX0_trades_2 s t a1 a2 hp o_1)
  refine ⟨o_2, ?_⟩
  exact ⟨rfl, rfl⟩
def HX0_turns_0 (Q : Option AV → MS → Prop) (b : AH) (s : MS) (t : Nat → Int → Int) (f1 : Int → Int) : Prop := XM mX0_turns 2 Q b 0 [(0, vR 320)] [] (sA s 1 f1)
def HX0_turns_12 (Q : Option AV → MS → Prop) (b : AH) (s : MS) (t : Nat → Int → Int) (x1 : Int) (x2 : Int) (f1 : Int → Int) : Prop := XM mX0_turns 2 Q b 12 [(0, vR 320), (1, vI x1), (2, vI x2)] [] (sA s 1 f1)
theorem bX0_turns_0 {Q : Option AV → MS → Prop} (b : AH) (s : MS) (t : Nat → Int → Int) (f1 : Int → Int) (hT : XTs b s t) (K : HX0_turns_12 Q b s t 0 (i32 ((t 0 1) - 1)) f1) : HX0_turns_0 Q b s t f1 := by
  refine JW.iconst dX0_turns_0 rfl ?_
  refine JW.istore_n (ls' := [(0, vR 320), (1, vI 0)]) dX0_turns_1 (Nat.le_of_ble_eq_true rfl) rfl ?_
  refine JW.aload_n dX0_turns_2 rfl ?_
  refine JW.xtab (y := s.1 3) hT dX0_turns_3 fX0_48 rfl ?_
  refine JW.tget hT.2 dX0_turns_6 fX0_52 (by decide) hT.2.2.2.1.2.1 ?_
  refine JW.iconst dX0_turns_9 rfl ?_
  refine JW.isub dX0_turns_10 ?_
  refine JW.istore_n (ls' := [(0, vR 320), (1, vI 0), (2, vI (i32 ((t 0 1) - 1)))]) dX0_turns_11 (Nat.le_of_ble_eq_true rfl) rfl ?_
  exact JW.pick [0, 1, 2] rfl K
theorem bX0_turns_12 {Q : Option AV → MS → Prop} (b : AH) (s : MS) (t : Nat → Int → Int) (x1 : Int) (x2 : Int) (f1 : Int → Int) (hT : XTs b s t) (K : (x2 ≤ x1 → Q none (sA s 1 f1)) ∧ (¬ x2 ≤ x1 → ((0 ≤ x1 ∧ x1 < 8) ∧ (0 ≤ x2 ∧ x2 < 8)) ∧ (HX0_turns_12 Q b s t (i32 (x1 + 1)) (i32 (x2 + (-1))) (upI (upI f1 x1 (f1 x2)) x2 (f1 x1))))) : HX0_turns_12 Q b s t x1 x2 f1 := by
  refine JW.iload_n dX0_turns_12 rfl ?_
  refine JW.iload_n dX0_turns_13 rfl ?_
  refine JW.icmp_ge (tgt := 32) dX0_turns_14 rfl (fun c_1 => ?_) (fun c_1 => ?_)
  · have K := K.1 c_1
    exact JW.vreturn dX0_turns_32 rfl ⟨_, rfl, K⟩
  · have K := K.2 c_1
    refine JW.aload_n dX0_turns_17 rfl ?_
    refine JW.iload_n dX0_turns_18 rfl ?_
    refine JW.iload_n dX0_turns_19 rfl ?_
    obtain ⟨o_2, K⟩ := K
    refine JW.xcall (As := [vI x1, vI x2]) dX0_turns_20 vX0_trades rfl q1022 (ctX0_trades b (sA s 1 f1) t x1 x2 hT o_2) (Nat.le_of_ble_eq_true rfl) rfl (Nat.le_of_ble_eq_true rfl) ?_
    rintro _ _ ⟨rfl, rfl⟩
    refine JW.xsteq (s2 := sA s 1 (upI (upI f1 x1 (f1 x2)) x2 (f1 x1))) (by simp only [sA_A, sS_S, sA_S, sA_lt, sS_lt, Nat.reduceLT, id_eq] <;> rfl) ?_
    refine JW.iinc (ls' := [(0, vR 320), (1, vI (i32 (x1 + 1))), (2, vI x2)]) dX0_turns_23 (Nat.le_of_ble_eq_true rfl) rfl rfl ?_
    refine JW.iinc (ls' := [(0, vR 320), (1, vI (i32 (x1 + 1))), (2, vI (i32 (x2 + (-1))))]) dX0_turns_26 (Nat.le_of_ble_eq_true rfl) rfl rfl ?_
    refine JW.goto (tgt := 12) dX0_turns_29 rfl ?_
    exact JW.pick [0, 1, 2] rfl K
def QX0_turns (s : MS) (t : Nat → Int → Int) : Option AV → MS → Prop := fun v s' => v = none ∧ s' = sA s 1 (revF (t 0 1) (s.2 1))
theorem vX0_turns_1 (s : MS) (t : Nat → Int → Int) (hp : tOK (t 0)) (x1 : Int) (x2 : Int) (f1 : Int → Int) (hI : (0 ≤ x1 ∧ x1 ≤ t 0 1 ∧ x1 ≤ t 0 1 - 1 - x1 + 2) ∧ x2 = t 0 1 - 1 - x1 ∧ f1 = revP (t 0 1) x1 (s.2 1)) (c_1 : x2 ≤ x1) : f1 = (revF (t 0 1) (s.2 1)) := by
  have hL := tOK_L hp
  (try unfold lex3)
  (try simp only [bI_0, bI_n, Classical.not_not] at *)
  (try simp (disch := omega) only [i32_id] at *)
  first | done | omega | ((repeat' (with_reducible apply And.intro)) <;> first | assumption | rfl | omega | (rw [hI.2.2]; exact revP_end (by omega) (by omega) (by omega)) | (rw [hI.2.2]; exact revP_s hI.2.1 (by omega) (by omega)) | (exact revP_0 _ _) | grind [upI])
theorem vX0_turns_2 (s : MS) (t : Nat → Int → Int) (hp : tOK (t 0)) (x1 : Int) (x2 : Int) (f1 : Int → Int) (hI : (0 ≤ x1 ∧ x1 ≤ t 0 1 ∧ x1 ≤ t 0 1 - 1 - x1 + 2) ∧ x2 = t 0 1 - 1 - x1 ∧ f1 = revP (t 0 1) x1 (s.2 1)) (c_1 : ¬ x2 ≤ x1) : ((0 ≤ x1 ∧ x1 < 8) ∧ (0 ≤ x2 ∧ x2 < 8)) := by
  have hL := tOK_L hp
  (try unfold lex3)
  (try simp only [bI_0, bI_n, Classical.not_not] at *)
  (try simp (disch := omega) only [i32_id] at *)
  first | done | omega | ((repeat' (with_reducible apply And.intro)) <;> first | assumption | rfl | omega | (rw [hI.2.2]; exact revP_end (by omega) (by omega) (by omega)) | (rw [hI.2.2]; exact revP_s hI.2.1 (by omega) (by omega)) | (exact revP_0 _ _) | grind [upI])
theorem vX0_turns_3 (s : MS) (t : Nat → Int → Int) (hp : tOK (t 0)) (x1 : Int) (x2 : Int) (f1 : Int → Int) (hI : (0 ≤ x1 ∧ x1 ≤ t 0 1 ∧ x1 ≤ t 0 1 - 1 - x1 + 2) ∧ x2 = t 0 1 - 1 - x1 ∧ f1 = revP (t 0 1) x1 (s.2 1)) (c_1 : ¬ x2 ≤ x1) (o_2 : ((0 ≤ x1 ∧ x1 < 8) ∧ (0 ≤ x2 ∧ x2 < 8))) : (0 ≤ (i32 (x1 + 1)) ∧ (i32 (x1 + 1)) ≤ t 0 1 ∧ (i32 (x1 + 1)) ≤ t 0 1 - 1 - (i32 (x1 + 1)) + 2) ∧ (i32 (x2 + (-1))) = t 0 1 - 1 - (i32 (x1 + 1)) ∧ (upI (upI f1 x1 (f1 x2)) x2 (f1 x1)) = revP (t 0 1) (i32 (x1 + 1)) (s.2 1) := by
  have hL := tOK_L hp
  (try unfold lex3)
  (try simp only [bI_0, bI_n, Classical.not_not] at *)
  (try simp (disch := omega) only [i32_id] at *)
  first | done | omega | ((repeat' (with_reducible apply And.intro)) <;> first | assumption | rfl | omega | (rw [hI.2.2]; exact revP_end (by omega) (by omega) (by omega)) | (rw [hI.2.2]; exact revP_s hI.2.1 (by omega) (by omega)) | (exact revP_0 _ _) | grind [upI])
theorem vX0_turns_4 (s : MS) (t : Nat → Int → Int) (hp : tOK (t 0)) (x1 : Int) (x2 : Int) (f1 : Int → Int) (hI : (0 ≤ x1 ∧ x1 ≤ t 0 1 ∧ x1 ≤ t 0 1 - 1 - x1 + 2) ∧ x2 = t 0 1 - 1 - x1 ∧ f1 = revP (t 0 1) x1 (s.2 1)) (c_1 : ¬ x2 ≤ x1) (o_2 : ((0 ≤ x1 ∧ x1 < 8) ∧ (0 ≤ x2 ∧ x2 < 8))) : lex3 0 0 ((t 0 1 - (i32 (x1 + 1))).toNat) 0 0 ((t 0 1 - x1).toNat) := by
  have hL := tOK_L hp
  (try unfold lex3)
  (try simp only [bI_0, bI_n, Classical.not_not] at *)
  (try simp (disch := omega) only [i32_id] at *)
  first | done | omega | ((repeat' (with_reducible apply And.intro)) <;> first | assumption | rfl | omega | (rw [hI.2.2]; exact revP_end (by omega) (by omega) (by omega)) | (rw [hI.2.2]; exact revP_s hI.2.1 (by omega) (by omega)) | (exact revP_0 _ _) | grind [upI])
theorem vX0_turns_5 (s : MS) (t : Nat → Int → Int) (hp : tOK (t 0)) : (0 ≤ (0 : Int) ∧ (0 : Int) ≤ t 0 1 ∧ (0 : Int) ≤ t 0 1 - 1 - (0 : Int) + 2) ∧ (i32 ((t 0 1) - 1)) = t 0 1 - 1 - (0 : Int) ∧ (s.2 1) = revP (t 0 1) (0 : Int) (s.2 1) := by
  have hL := tOK_L hp
  (try unfold lex3)
  (try simp only [bI_0, bI_n, Classical.not_not] at *)
  (try simp (disch := omega) only [i32_id] at *)
  first | done | omega | ((repeat' (with_reducible apply And.intro)) <;> first | assumption | rfl | omega | (rw [hI.2.2]; exact revP_end (by omega) (by omega) (by omega)) | (rw [hI.2.2]; exact revP_s hI.2.1 (by omega) (by omega)) | (exact revP_0 _ _) | grind [upI])
theorem allX0_turns (b : AH) (s : MS) (t : Nat → Int → Int) (hp : tOK (t 0)) (hT : XTs b s t) : ∀ m1 m2 m3 : Nat, (∀ (x1 : Int) (x2 : Int) (f1 : Int → Int), m1 = 0 → m2 = 0 → m3 = ((t 0 1 - x1).toNat) → ((0 ≤ x1 ∧ x1 ≤ t 0 1 ∧ x1 ≤ t 0 1 - 1 - x1 + 2) ∧ x2 = t 0 1 - 1 - x1 ∧ f1 = revP (t 0 1) x1 (s.2 1)) → HX0_turns_12 (QX0_turns s t) b s t x1 x2 f1) := by
  refine lex3_ind ?_
  intro m1 m2 m3 ih
  rintro x1 x2 f1 rfl rfl rfl hI
  refine bX0_turns_12 b s t x1 x2 f1 hT ?_
  refine ⟨fun c_1 => ?_, fun c_1 => ?_⟩
  · exact ⟨rfl, (sA_c rfl (vX0_turns_1 s t hp x1 x2 f1 hI c_1))⟩
  · have o_2 : ((0 ≤ x1 ∧ x1 < 8) ∧ (0 ≤ x2 ∧ x2 < 8)) := (vX0_turns_2 s t hp x1 x2 f1 hI c_1)
    refine ⟨o_2, ?_⟩
    exact (ih _ _ _ (vX0_turns_4 s t hp x1 x2 f1 hI c_1 o_2)) (i32 (x1 + 1)) (i32 (x2 + (-1))) (upI (upI f1 x1 (f1 x2)) x2 (f1 x1)) rfl rfl rfl (vX0_turns_3 s t hp x1 x2 f1 hI c_1 o_2)
theorem ctX0_turns (b : AH) (s : MS) (t : Nat → Int → Int) (hT : XTs b s t) (hp : tOK (t 0)) : XC mX0_turns 2 b s [] (QX0_turns s t) := by
  refine XC.of (by decide) rfl (Nat.le_of_ble_eq_true rfl) (JW.xsteq (s2 := sA s 1 (s.2 1)) (by simp only [sA_id, sS_id]) ?_)
  refine bX0_turns_0 b s t (s.2 1) hT ?_
  exact (allX0_turns b s t hp hT _ _ _) 0 (i32 ((t 0 1) - 1)) (s.2 1) rfl rfl rfl (vX0_turns_5 s t hp)
def HX0_sorts_0 (Q : Option AV → MS → Prop) (b : AH) (s : MS) (t : Nat → Int → Int) (f1 : Int → Int) : Prop := XM mX0_sorts 2 Q b 0 [(0, vR 320)] [] (sA s 1 f1)
def HX0_sorts_2 (Q : Option AV → MS → Prop) (b : AH) (s : MS) (t : Nat → Int → Int) (x1 : Int) (f1 : Int → Int) : Prop := XM mX0_sorts 2 Q b 2 [(0, vR 320), (1, vI x1)] [] (sA s 1 f1)
def HX0_sorts_15 (Q : Option AV → MS → Prop) (b : AH) (s : MS) (t : Nat → Int → Int) (x1 : Int) (x2 : Int) (f1 : Int → Int) : Prop := XM mX0_sorts 2 Q b 15 [(0, vR 320), (1, vI x1), (2, vI x2)] [] (sA s 1 f1)
theorem bX0_sorts_0 {Q : Option AV → MS → Prop} (b : AH) (s : MS) (t : Nat → Int → Int) (f1 : Int → Int) (hT : XTs b s t) (K : HX0_sorts_2 Q b s t 1 f1) : HX0_sorts_0 Q b s t f1 := by
  refine JW.iconst dX0_sorts_0 rfl ?_
  refine JW.istore_n (ls' := [(0, vR 320), (1, vI 1)]) dX0_sorts_1 (Nat.le_of_ble_eq_true rfl) rfl ?_
  exact JW.pick [0, 1] rfl K
theorem bX0_sorts_2 {Q : Option AV → MS → Prop} (b : AH) (s : MS) (t : Nat → Int → Int) (x1 : Int) (f1 : Int → Int) (hT : XTs b s t) (K : ((t 0 1) ≤ x1 → Q none (sA s 1 f1)) ∧ (¬ (t 0 1) ≤ x1 → HX0_sorts_15 Q b s t x1 x1 f1)) : HX0_sorts_2 Q b s t x1 f1 := by
  refine JW.iload_n dX0_sorts_2 rfl ?_
  refine JW.aload_n dX0_sorts_3 rfl ?_
  refine JW.xtab (y := s.1 3) hT dX0_sorts_4 fX0_48 rfl ?_
  refine JW.tget hT.2 dX0_sorts_7 fX0_52 (by decide) hT.2.2.2.1.2.1 ?_
  refine JW.icmp_ge (tgt := 56) dX0_sorts_10 rfl (fun c_1 => ?_) (fun c_1 => ?_)
  · have K := K.1 c_1
    exact JW.vreturn dX0_sorts_56 rfl ⟨_, rfl, K⟩
  · have K := K.2 c_1
    refine JW.iload_n dX0_sorts_13 rfl ?_
    refine JW.istore_n (ls' := [(0, vR 320), (1, vI x1), (2, vI x1)]) dX0_sorts_14 (Nat.le_of_ble_eq_true rfl) rfl ?_
    exact JW.pick [0, 1, 2] rfl K
theorem bX0_sorts_15 {Q : Option AV → MS → Prop} (b : AH) (s : MS) (t : Nat → Int → Int) (x1 : Int) (x2 : Int) (f1 : Int → Int) (hT : XTs b s t) (K : (x2 ≤ 0 → HX0_sorts_2 Q b s t (i32 (x1 + 1)) f1) ∧ (¬ x2 ≤ 0 → (0 ≤ x2 ∧ x2 < 8) ∧ ((0 ≤ (i32 (x2 - 1)) ∧ (i32 (x2 - 1)) < 8) ∧ (((f1 x2) ≤ (f1 (i32 (x2 - 1))) → HX0_sorts_2 Q b s t (i32 (x1 + 1)) f1) ∧ (¬ (f1 x2) ≤ (f1 (i32 (x2 - 1))) → ((0 ≤ x2 ∧ x2 < 8) ∧ (0 ≤ (i32 (x2 - 1)) ∧ (i32 (x2 - 1)) < 8)) ∧ (HX0_sorts_15 Q b s t x1 (i32 (x2 + (-1))) (upI (upI f1 x2 (f1 (i32 (x2 - 1)))) (i32 (x2 - 1)) (f1 x2)))))))) : HX0_sorts_15 Q b s t x1 x2 f1 := by
  refine JW.iload_n dX0_sorts_15 rfl ?_
  refine JW.if_le (tgt := 50) dX0_sorts_16 rfl (fun c_1 => ?_) (fun c_1 => ?_)
  · have K := K.1 c_1
    refine JW.iinc (ls' := [(0, vR 320), (1, vI (i32 (x1 + 1))), (2, vI x2)]) dX0_sorts_50 (Nat.le_of_ble_eq_true rfl) rfl rfl ?_
    refine JW.goto (tgt := 2) dX0_sorts_53 rfl ?_
    exact JW.pick [0, 1] rfl K
  · have K := K.2 c_1
    refine JW.aload_n dX0_sorts_19 rfl ?_
    refine JW.xget (v := vR 322) dX0_sorts_20 fX0_58 rfl ?_
    refine JW.iload_n dX0_sorts_23 rfl ?_
    obtain ⟨o_2, K⟩ := K
    refine JW.xald 1 (x := (f1 x2)) dX0_sorts_24 (by decide) rfl o_2.1 o_2.2 rfl ?_
    refine JW.aload_n dX0_sorts_25 rfl ?_
    refine JW.xget (v := vR 322) dX0_sorts_26 fX0_58 rfl ?_
    refine JW.iload_n dX0_sorts_29 rfl ?_
    refine JW.iconst dX0_sorts_30 rfl ?_
    refine JW.isub dX0_sorts_31 ?_
    obtain ⟨o_3, K⟩ := K
    refine JW.xald 1 (x := (f1 (i32 (x2 - 1)))) dX0_sorts_32 (by decide) rfl o_3.1 o_3.2 rfl ?_
    refine JW.icmp_le (tgt := 50) dX0_sorts_33 rfl (fun c_4 => ?_) (fun c_4 => ?_)
    · have K := K.1 c_4
      refine JW.iinc (ls' := [(0, vR 320), (1, vI (i32 (x1 + 1))), (2, vI x2)]) dX0_sorts_50 (Nat.le_of_ble_eq_true rfl) rfl rfl ?_
      refine JW.goto (tgt := 2) dX0_sorts_53 rfl ?_
      exact JW.pick [0, 1] rfl K
    · have K := K.2 c_4
      refine JW.aload_n dX0_sorts_36 rfl ?_
      refine JW.iload_n dX0_sorts_37 rfl ?_
      refine JW.iload_n dX0_sorts_38 rfl ?_
      refine JW.iconst dX0_sorts_39 rfl ?_
      refine JW.isub dX0_sorts_40 ?_
      obtain ⟨o_5, K⟩ := K
      refine JW.xcall (As := [vI x2, vI (i32 (x2 - 1))]) dX0_sorts_41 vX0_trades rfl q1022 (ctX0_trades b (sA s 1 f1) t x2 (i32 (x2 - 1)) hT o_5) (Nat.le_of_ble_eq_true rfl) rfl (Nat.le_of_ble_eq_true rfl) ?_
      rintro _ _ ⟨rfl, rfl⟩
      refine JW.xsteq (s2 := sA s 1 (upI (upI f1 x2 (f1 (i32 (x2 - 1)))) (i32 (x2 - 1)) (f1 x2))) (by simp only [sA_A, sS_S, sA_S, sA_lt, sS_lt, Nat.reduceLT, id_eq] <;> rfl) ?_
      refine JW.iinc (ls' := [(0, vR 320), (1, vI x1), (2, vI (i32 (x2 + (-1))))]) dX0_sorts_44 (Nat.le_of_ble_eq_true rfl) rfl rfl ?_
      refine JW.goto (tgt := 15) dX0_sorts_47 rfl ?_
      exact JW.pick [0, 1, 2] rfl K
def QX0_sorts (s : MS) (t : Nat → Int → Int) : Option AV → MS → Prop := fun v s' => ∃ (f1 : Int → Int), v = none ∧ s' = sA s 1 f1 ∧ (dsc (s.2 1) f1 (t 0 1))
theorem vX0_sorts_1 (s : MS) (t : Nat → Int → Int) (hp : tOK (t 0)) (x1 : Int) (f1 : Int → Int) (hI : (1 ≤ x1 ∧ x1 ≤ 9) ∧ dscP (s.2 1) f1 (t 0 1) (x1 - 1) (-1)) (c_1 : (t 0 1) ≤ x1) : dsc (s.2 1) f1 (t 0 1) := by
  have hL := tOK_L hp
  (try have e9 : x2 + -1 = x2 - 1 := by omega)
  (try unfold lex3)
  (try simp only [bI_0, bI_n, Classical.not_not] at *)
  (try simp (disch := omega) only [i32_id] at *)
  first | done | omega | ((repeat' (with_reducible apply And.intro)) <;> first | assumption | rfl | omega | (exact dscP_end hI.2 (by omega)) | (exact dscP_in hI.2 rfl) | (exact dscP_out hI.2.2 (Or.inl (by assumption)) (by omega)) | (exact dscP_out hI.2.2 (Or.inr (by assumption)) (by omega)) | (rw [e9]; exact dscP_s hI.2.2 (by omega) (by omega) (by omega) (by omega)) | (exact dscP_s hI.2.2 (by omega) (by omega) (by omega) (by omega)) | (exact dscP_0) | grind [upI])
theorem vX0_sorts_2 (s : MS) (t : Nat → Int → Int) (hp : tOK (t 0)) (x1 : Int) (f1 : Int → Int) (hI : (1 ≤ x1 ∧ x1 ≤ 9) ∧ dscP (s.2 1) f1 (t 0 1) (x1 - 1) (-1)) (c_1 : ¬ (t 0 1) ≤ x1) : (1 ≤ x1 ∧ x1 < t 0 1) ∧ (0 ≤ x1 ∧ x1 ≤ x1) ∧ dscP (s.2 1) f1 (t 0 1) x1 x1 := by
  have hL := tOK_L hp
  (try have e9 : x2 + -1 = x2 - 1 := by omega)
  (try unfold lex3)
  (try simp only [bI_0, bI_n, Classical.not_not] at *)
  (try simp (disch := omega) only [i32_id] at *)
  first | done | omega | ((repeat' (with_reducible apply And.intro)) <;> first | assumption | rfl | omega | (exact dscP_end hI.2 (by omega)) | (exact dscP_in hI.2 rfl) | (exact dscP_out hI.2.2 (Or.inl (by assumption)) (by omega)) | (exact dscP_out hI.2.2 (Or.inr (by assumption)) (by omega)) | (rw [e9]; exact dscP_s hI.2.2 (by omega) (by omega) (by omega) (by omega)) | (exact dscP_s hI.2.2 (by omega) (by omega) (by omega) (by omega)) | (exact dscP_0) | grind [upI])
theorem vX0_sorts_3 (s : MS) (t : Nat → Int → Int) (hp : tOK (t 0)) (x1 : Int) (f1 : Int → Int) (hI : (1 ≤ x1 ∧ x1 ≤ 9) ∧ dscP (s.2 1) f1 (t 0 1) (x1 - 1) (-1)) (c_1 : ¬ (t 0 1) ≤ x1) : lex3 0 ((9 - x1).toNat - 1) (x1.toNat + 1) 0 ((9 - x1).toNat) 0 := by
  have hL := tOK_L hp
  (try have e9 : x2 + -1 = x2 - 1 := by omega)
  (try unfold lex3)
  (try simp only [bI_0, bI_n, Classical.not_not] at *)
  (try simp (disch := omega) only [i32_id] at *)
  first | done | omega | ((repeat' (with_reducible apply And.intro)) <;> first | assumption | rfl | omega | (exact dscP_end hI.2 (by omega)) | (exact dscP_in hI.2 rfl) | (exact dscP_out hI.2.2 (Or.inl (by assumption)) (by omega)) | (exact dscP_out hI.2.2 (Or.inr (by assumption)) (by omega)) | (rw [e9]; exact dscP_s hI.2.2 (by omega) (by omega) (by omega) (by omega)) | (exact dscP_s hI.2.2 (by omega) (by omega) (by omega) (by omega)) | (exact dscP_0) | grind [upI])
theorem vX0_sorts_4 (s : MS) (t : Nat → Int → Int) (hp : tOK (t 0)) (x1 : Int) (x2 : Int) (f1 : Int → Int) (hI : (1 ≤ x1 ∧ x1 < t 0 1) ∧ (0 ≤ x2 ∧ x2 ≤ x1) ∧ dscP (s.2 1) f1 (t 0 1) x1 x2) (c_1 : x2 ≤ 0) : (1 ≤ (i32 (x1 + 1)) ∧ (i32 (x1 + 1)) ≤ 9) ∧ dscP (s.2 1) f1 (t 0 1) ((i32 (x1 + 1)) - 1) (-1) := by
  have hL := tOK_L hp
  (try have e9 : x2 + -1 = x2 - 1 := by omega)
  (try unfold lex3)
  (try simp only [bI_0, bI_n, Classical.not_not] at *)
  (try simp (disch := omega) only [i32_id] at *)
  first | done | omega | ((repeat' (with_reducible apply And.intro)) <;> first | assumption | rfl | omega | (exact dscP_end hI.2 (by omega)) | (exact dscP_in hI.2 rfl) | (exact dscP_out hI.2.2 (Or.inl (by assumption)) (by omega)) | (exact dscP_out hI.2.2 (Or.inr (by assumption)) (by omega)) | (rw [e9]; exact dscP_s hI.2.2 (by omega) (by omega) (by omega) (by omega)) | (exact dscP_s hI.2.2 (by omega) (by omega) (by omega) (by omega)) | (exact dscP_0) | grind [upI])
theorem vX0_sorts_5 (s : MS) (t : Nat → Int → Int) (hp : tOK (t 0)) (x1 : Int) (x2 : Int) (f1 : Int → Int) (hI : (1 ≤ x1 ∧ x1 < t 0 1) ∧ (0 ≤ x2 ∧ x2 ≤ x1) ∧ dscP (s.2 1) f1 (t 0 1) x1 x2) (c_1 : x2 ≤ 0) : lex3 0 ((9 - (i32 (x1 + 1))).toNat) 0 0 ((9 - x1).toNat - 1) (x2.toNat + 1) := by
  have hL := tOK_L hp
  (try have e9 : x2 + -1 = x2 - 1 := by omega)
  (try unfold lex3)
  (try simp only [bI_0, bI_n, Classical.not_not] at *)
  (try simp (disch := omega) only [i32_id] at *)
  first | done | omega | ((repeat' (with_reducible apply And.intro)) <;> first | assumption | rfl | omega | (exact dscP_end hI.2 (by omega)) | (exact dscP_in hI.2 rfl) | (exact dscP_out hI.2.2 (Or.inl (by assumption)) (by omega)) | (exact dscP_out hI.2.2 (Or.inr (by assumption)) (by omega)) | (rw [e9]; exact dscP_s hI.2.2 (by omega) (by omega) (by omega) (by omega)) | (exact dscP_s hI.2.2 (by omega) (by omega) (by omega) (by omega)) | (exact dscP_0) | grind [upI])
theorem vX0_sorts_6 (s : MS) (t : Nat → Int → Int) (hp : tOK (t 0)) (x1 : Int) (x2 : Int) (f1 : Int → Int) (hI : (1 ≤ x1 ∧ x1 < t 0 1) ∧ (0 ≤ x2 ∧ x2 ≤ x1) ∧ dscP (s.2 1) f1 (t 0 1) x1 x2) (c_1 : ¬ x2 ≤ 0) : (0 ≤ x2 ∧ x2 < 8) := by
  have hL := tOK_L hp
  (try have e9 : x2 + -1 = x2 - 1 := by omega)
  (try unfold lex3)
  (try simp only [bI_0, bI_n, Classical.not_not] at *)
  (try simp (disch := omega) only [i32_id] at *)
  first | done | omega | ((repeat' (with_reducible apply And.intro)) <;> first | assumption | rfl | omega | (exact dscP_end hI.2 (by omega)) | (exact dscP_in hI.2 rfl) | (exact dscP_out hI.2.2 (Or.inl (by assumption)) (by omega)) | (exact dscP_out hI.2.2 (Or.inr (by assumption)) (by omega)) | (rw [e9]; exact dscP_s hI.2.2 (by omega) (by omega) (by omega) (by omega)) | (exact dscP_s hI.2.2 (by omega) (by omega) (by omega) (by omega)) | (exact dscP_0) | grind [upI])
theorem vX0_sorts_7 (s : MS) (t : Nat → Int → Int) (hp : tOK (t 0)) (x1 : Int) (x2 : Int) (f1 : Int → Int) (hI : (1 ≤ x1 ∧ x1 < t 0 1) ∧ (0 ≤ x2 ∧ x2 ≤ x1) ∧ dscP (s.2 1) f1 (t 0 1) x1 x2) (c_1 : ¬ x2 ≤ 0) (o_2 : (0 ≤ x2 ∧ x2 < 8)) : (0 ≤ (i32 (x2 - 1)) ∧ (i32 (x2 - 1)) < 8) := by
  have hL := tOK_L hp
  (try have e9 : x2 + -1 = x2 - 1 := by omega)
  (try unfold lex3)
  (try simp only [bI_0, bI_n, Classical.not_not] at *)
  (try simp (disch := omega) only [i32_id] at *)
  first | done | omega | ((repeat' (with_reducible apply And.intro)) <;> first | assumption | rfl | omega | (exact dscP_end hI.2 (by omega)) | (exact dscP_in hI.2 rfl) | (exact dscP_out hI.2.2 (Or.inl (by assumption)) (by omega)) | (exact dscP_out hI.2.2 (Or.inr (by assumption)) (by omega)) | (rw [e9]; exact dscP_s hI.2.2 (by omega) (by omega) (by omega) (by omega)) | (exact dscP_s hI.2.2 (by omega) (by omega) (by omega) (by omega)) | (exact dscP_0) | grind [upI])
theorem vX0_sorts_8 (s : MS) (t : Nat → Int → Int) (hp : tOK (t 0)) (x1 : Int) (x2 : Int) (f1 : Int → Int) (hI : (1 ≤ x1 ∧ x1 < t 0 1) ∧ (0 ≤ x2 ∧ x2 ≤ x1) ∧ dscP (s.2 1) f1 (t 0 1) x1 x2) (c_1 : ¬ x2 ≤ 0) (o_2 : (0 ≤ x2 ∧ x2 < 8)) (o_3 : (0 ≤ (i32 (x2 - 1)) ∧ (i32 (x2 - 1)) < 8)) (c_4 : (f1 x2) ≤ (f1 (i32 (x2 - 1)))) : (1 ≤ (i32 (x1 + 1)) ∧ (i32 (x1 + 1)) ≤ 9) ∧ dscP (s.2 1) f1 (t 0 1) ((i32 (x1 + 1)) - 1) (-1) := by
  have hL := tOK_L hp
  (try have e9 : x2 + -1 = x2 - 1 := by omega)
  (try unfold lex3)
  (try simp only [bI_0, bI_n, Classical.not_not] at *)
  (try simp (disch := omega) only [i32_id] at *)
  first | done | omega | ((repeat' (with_reducible apply And.intro)) <;> first | assumption | rfl | omega | (exact dscP_end hI.2 (by omega)) | (exact dscP_in hI.2 rfl) | (exact dscP_out hI.2.2 (Or.inl (by assumption)) (by omega)) | (exact dscP_out hI.2.2 (Or.inr (by assumption)) (by omega)) | (rw [e9]; exact dscP_s hI.2.2 (by omega) (by omega) (by omega) (by omega)) | (exact dscP_s hI.2.2 (by omega) (by omega) (by omega) (by omega)) | (exact dscP_0) | grind [upI])
theorem vX0_sorts_9 (s : MS) (t : Nat → Int → Int) (hp : tOK (t 0)) (x1 : Int) (x2 : Int) (f1 : Int → Int) (hI : (1 ≤ x1 ∧ x1 < t 0 1) ∧ (0 ≤ x2 ∧ x2 ≤ x1) ∧ dscP (s.2 1) f1 (t 0 1) x1 x2) (c_1 : ¬ x2 ≤ 0) (o_2 : (0 ≤ x2 ∧ x2 < 8)) (o_3 : (0 ≤ (i32 (x2 - 1)) ∧ (i32 (x2 - 1)) < 8)) (c_4 : (f1 x2) ≤ (f1 (i32 (x2 - 1)))) : lex3 0 ((9 - (i32 (x1 + 1))).toNat) 0 0 ((9 - x1).toNat - 1) (x2.toNat + 1) := by
  have hL := tOK_L hp
  (try have e9 : x2 + -1 = x2 - 1 := by omega)
  (try unfold lex3)
  (try simp only [bI_0, bI_n, Classical.not_not] at *)
  (try simp (disch := omega) only [i32_id] at *)
  first | done | omega | ((repeat' (with_reducible apply And.intro)) <;> first | assumption | rfl | omega | (exact dscP_end hI.2 (by omega)) | (exact dscP_in hI.2 rfl) | (exact dscP_out hI.2.2 (Or.inl (by assumption)) (by omega)) | (exact dscP_out hI.2.2 (Or.inr (by assumption)) (by omega)) | (rw [e9]; exact dscP_s hI.2.2 (by omega) (by omega) (by omega) (by omega)) | (exact dscP_s hI.2.2 (by omega) (by omega) (by omega) (by omega)) | (exact dscP_0) | grind [upI])
theorem vX0_sorts_10 (s : MS) (t : Nat → Int → Int) (hp : tOK (t 0)) (x1 : Int) (x2 : Int) (f1 : Int → Int) (hI : (1 ≤ x1 ∧ x1 < t 0 1) ∧ (0 ≤ x2 ∧ x2 ≤ x1) ∧ dscP (s.2 1) f1 (t 0 1) x1 x2) (c_1 : ¬ x2 ≤ 0) (o_2 : (0 ≤ x2 ∧ x2 < 8)) (o_3 : (0 ≤ (i32 (x2 - 1)) ∧ (i32 (x2 - 1)) < 8)) (c_4 : ¬ (f1 x2) ≤ (f1 (i32 (x2 - 1)))) : ((0 ≤ x2 ∧ x2 < 8) ∧ (0 ≤ (i32 (x2 - 1)) ∧ (i32 (x2 - 1)) < 8)) := by
  have hL := tOK_L hp
  (try have e9 : x2 + -1 = x2 - 1 := by omega)
  (try unfold lex3)
  (try simp only [bI_0, bI_n, Classical.not_not] at *)
  (try simp (disch := omega) only [i32_id] at *)
  first | done | omega | ((repeat' (with_reducible apply And.intro)) <;> first | assumption | rfl | omega | (exact dscP_end hI.2 (by omega)) | (exact dscP_in hI.2 rfl) | (exact dscP_out hI.2.2 (Or.inl (by assumption)) (by omega)) | (exact dscP_out hI.2.2 (Or.inr (by assumption)) (by omega)) | (rw [e9]; exact dscP_s hI.2.2 (by omega) (by omega) (by omega) (by omega)) | (exact dscP_s hI.2.2 (by omega) (by omega) (by omega) (by omega)) | (exact dscP_0) | grind [upI])
theorem vX0_sorts_11 (s : MS) (t : Nat → Int → Int) (hp : tOK (t 0)) (x1 : Int) (x2 : Int) (f1 : Int → Int) (hI : (1 ≤ x1 ∧ x1 < t 0 1) ∧ (0 ≤ x2 ∧ x2 ≤ x1) ∧ dscP (s.2 1) f1 (t 0 1) x1 x2) (c_1 : ¬ x2 ≤ 0) (o_2 : (0 ≤ x2 ∧ x2 < 8)) (o_3 : (0 ≤ (i32 (x2 - 1)) ∧ (i32 (x2 - 1)) < 8)) (c_4 : ¬ (f1 x2) ≤ (f1 (i32 (x2 - 1)))) (o_5 : ((0 ≤ x2 ∧ x2 < 8) ∧ (0 ≤ (i32 (x2 - 1)) ∧ (i32 (x2 - 1)) < 8))) : (1 ≤ x1 ∧ x1 < t 0 1) ∧ (0 ≤ (i32 (x2 + (-1))) ∧ (i32 (x2 + (-1))) ≤ x1) ∧ dscP (s.2 1) (upI (upI f1 x2 (f1 (i32 (x2 - 1)))) (i32 (x2 - 1)) (f1 x2)) (t 0 1) x1 (i32 (x2 + (-1))) := by
  have hL := tOK_L hp
  (try have e9 : x2 + -1 = x2 - 1 := by omega)
  (try unfold lex3)
  (try simp only [bI_0, bI_n, Classical.not_not] at *)
  (try simp (disch := omega) only [i32_id] at *)
  first | done | omega | ((repeat' (with_reducible apply And.intro)) <;> first | assumption | rfl | omega | (exact dscP_end hI.2 (by omega)) | (exact dscP_in hI.2 rfl) | (exact dscP_out hI.2.2 (Or.inl (by assumption)) (by omega)) | (exact dscP_out hI.2.2 (Or.inr (by assumption)) (by omega)) | (rw [e9]; exact dscP_s hI.2.2 (by omega) (by omega) (by omega) (by omega)) | (exact dscP_s hI.2.2 (by omega) (by omega) (by omega) (by omega)) | (exact dscP_0) | grind [upI])
theorem vX0_sorts_12 (s : MS) (t : Nat → Int → Int) (hp : tOK (t 0)) (x1 : Int) (x2 : Int) (f1 : Int → Int) (hI : (1 ≤ x1 ∧ x1 < t 0 1) ∧ (0 ≤ x2 ∧ x2 ≤ x1) ∧ dscP (s.2 1) f1 (t 0 1) x1 x2) (c_1 : ¬ x2 ≤ 0) (o_2 : (0 ≤ x2 ∧ x2 < 8)) (o_3 : (0 ≤ (i32 (x2 - 1)) ∧ (i32 (x2 - 1)) < 8)) (c_4 : ¬ (f1 x2) ≤ (f1 (i32 (x2 - 1)))) (o_5 : ((0 ≤ x2 ∧ x2 < 8) ∧ (0 ≤ (i32 (x2 - 1)) ∧ (i32 (x2 - 1)) < 8))) : lex3 0 ((9 - x1).toNat - 1) ((i32 (x2 + (-1))).toNat + 1) 0 ((9 - x1).toNat - 1) (x2.toNat + 1) := by
  have hL := tOK_L hp
  (try have e9 : x2 + -1 = x2 - 1 := by omega)
  (try unfold lex3)
  (try simp only [bI_0, bI_n, Classical.not_not] at *)
  (try simp (disch := omega) only [i32_id] at *)
  first | done | omega | ((repeat' (with_reducible apply And.intro)) <;> first | assumption | rfl | omega | (exact dscP_end hI.2 (by omega)) | (exact dscP_in hI.2 rfl) | (exact dscP_out hI.2.2 (Or.inl (by assumption)) (by omega)) | (exact dscP_out hI.2.2 (Or.inr (by assumption)) (by omega)) | (rw [e9]; exact dscP_s hI.2.2 (by omega) (by omega) (by omega) (by omega)) | (exact dscP_s hI.2.2 (by omega) (by omega) (by omega) (by omega)) | (exact dscP_0) | grind [upI])
theorem vX0_sorts_13 (s : MS) (t : Nat → Int → Int) (hp : tOK (t 0)) : (1 ≤ (1 : Int) ∧ (1 : Int) ≤ 9) ∧ dscP (s.2 1) (s.2 1) (t 0 1) ((1 : Int) - 1) (-1) := by
  have hL := tOK_L hp
  (try have e9 : x2 + -1 = x2 - 1 := by omega)
  (try unfold lex3)
  (try simp only [bI_0, bI_n, Classical.not_not] at *)
  (try simp (disch := omega) only [i32_id] at *)
  first | done | omega | ((repeat' (with_reducible apply And.intro)) <;> first | assumption | rfl | omega | (exact dscP_end hI.2 (by omega)) | (exact dscP_in hI.2 rfl) | (exact dscP_out hI.2.2 (Or.inl (by assumption)) (by omega)) | (exact dscP_out hI.2.2 (Or.inr (by assumption)) (by omega)) | (rw [e9]; exact dscP_s hI.2.2 (by omega) (by omega) (by omega) (by omega)) | (exact dscP_s hI.2.2 (by omega) (by omega) (by omega) (by omega)) | (exact dscP_0) | grind [upI])
theorem allX0_sorts (b : AH) (s : MS) (t : Nat → Int → Int) (hp : tOK (t 0)) (hT : XTs b s t) : ∀ m1 m2 m3 : Nat, (∀ (x1 : Int) (f1 : Int → Int), m1 = 0 → m2 = ((9 - x1).toNat) → m3 = 0 → ((1 ≤ x1 ∧ x1 ≤ 9) ∧ dscP (s.2 1) f1 (t 0 1) (x1 - 1) (-1)) → HX0_sorts_2 (QX0_sorts s t) b s t x1 f1) ∧ (∀ (x1 : Int) (x2 : Int) (f1 : Int → Int), m1 = 0 → m2 = ((9 - x1).toNat - 1) → m3 = (x2.toNat + 1) → ((1 ≤ x1 ∧ x1 < t 0 1) ∧ (0 ≤ x2 ∧ x2 ≤ x1) ∧ dscP (s.2 1) f1 (t 0 1) x1 x2) → HX0_sorts_15 (QX0_sorts s t) b s t x1 x2 f1) := by
  refine lex3_ind ?_
  intro m1 m2 m3 ih
  refine ⟨?_, ?_⟩
  · rintro x1 f1 rfl rfl rfl hI
    refine bX0_sorts_2 b s t x1 f1 hT ?_
    refine ⟨fun c_1 => ?_, fun c_1 => ?_⟩
    · exact ⟨f1, rfl, rfl, (vX0_sorts_1 s t hp x1 f1 hI c_1)⟩
    · exact (ih _ _ _ (vX0_sorts_3 s t hp x1 f1 hI c_1)).2 x1 x1 f1 rfl rfl rfl (vX0_sorts_2 s t hp x1 f1 hI c_1)
  · rintro x1 x2 f1 rfl rfl rfl hI
    refine bX0_sorts_15 b s t x1 x2 f1 hT ?_
    refine ⟨fun c_1 => ?_, fun c_1 => ?_⟩
    · exact (ih _ _ _ (vX0_sorts_5 s t hp x1 x2 f1 hI c_1)).1 (i32 (x1 + 1)) f1 rfl rfl rfl (vX0_sorts_4 s t hp x1 x2 f1 hI c_1)
    · have o_2 : (0 ≤ x2 ∧ x2 < 8) := (vX0_sorts_6 s t hp x1 x2 f1 hI c_1)
      refine ⟨o_2, ?_⟩
      have o_3 : (0 ≤ (i32 (x2 - 1)) ∧ (i32 (x2 - 1)) < 8) := (vX0_sorts_7 s t hp x1 x2 f1 hI c_1 o_2)
      refine ⟨o_3, ?_⟩
      refine ⟨fun c_4 => ?_, fun c_4 => ?_⟩
      · exact (ih _ _ _ (vX0_sorts_9 s t hp x1 x2 f1 hI c_1 o_2 o_3 c_4)).1 (i32 (x1 + 1)) f1 rfl rfl rfl (vX0_sorts_8 s t hp x1 x2 f1 hI c_1 o_2 o_3 c_4)
      · have o_5 : ((0 ≤ x2 ∧ x2 < 8) ∧ (0 ≤ (i32 (x2 - 1)) ∧ (i32 (x2 - 1)) < 8)) := (vX0_sorts_10 s t hp x1 x2 f1 hI c_1 o_2 o_3 c_4)
        refine ⟨o_5, ?_⟩
        exact (ih _ _ _ (vX0_sorts_12 s t hp x1 x2 f1 hI c_1 o_2 o_3 c_4 o_5)).2 x1 (i32 (x2 + (-1))) (upI (upI f1 x2 (f1 (i32 (x2 - 1)))) (i32 (x2 - 1)) (f1 x2)) rfl rfl rfl (vX0_sorts_11 s t hp x1 x2 f1 hI c_1 o_2 o_3 c_4 o_5)
theorem ctX0_sorts (b : AH) (s : MS) (t : Nat → Int → Int) (hT : XTs b s t) (hp : tOK (t 0)) : XC mX0_sorts 2 b s [] (QX0_sorts s t) := by
  refine XC.of (by decide) rfl (Nat.le_of_ble_eq_true rfl) (JW.xsteq (s2 := sA s 1 (s.2 1)) (by simp only [sA_id, sS_id]) ?_)
  refine bX0_sorts_0 b s t (s.2 1) hT ?_
  exact (allX0_sorts b s t hp hT _ _ _).1 1 (s.2 1) rfl rfl rfl (vX0_sorts_13 s t hp)
def HX0_joined_1_0 (Q : Option AV → MS → Prop) (b : AH) (s : MS) (t : Nat → Int → Int) (x2 : Int) : Prop := XM mX0_joined 1 Q b 0 [(0, vR 320), (1, vR 322), (2, vI x2)] [] s
def HX0_joined_1_5 (Q : Option AV → MS → Prop) (b : AH) (s : MS) (t : Nat → Int → Int) (x2 : Int) (x3 : Int) (x5 : Int) : Prop := XM mX0_joined 1 Q b 5 [(0, vR 320), (1, vR 322), (2, vI x2), (3, vL x3), (5, vI x5)] [] s
theorem bX0_joined_1_0 {Q : Option AV → MS → Prop} (b : AH) (s : MS) (t : Nat → Int → Int) (x2 : Int) (hT : XTs b s t) (K : HX0_joined_1_5 Q b s t x2 0 0) : HX0_joined_1_0 Q b s t x2 := by
  refine JW.lconst (x := 0) dX0_joined_0 rfl ?_
  refine JW.lstore_n (ls' := [(0, vR 320), (1, vR 322), (2, vI x2), (3, vL 0)]) dX0_joined_1 (Nat.le_of_ble_eq_true rfl) rfl ?_
  refine JW.iconst dX0_joined_2 rfl ?_
  refine JW.istore (ls' := [(0, vR 320), (1, vR 322), (2, vI x2), (3, vL 0), (5, vI 0)]) dX0_joined_3 (Nat.le_of_ble_eq_true rfl) rfl ?_
  exact JW.pick [0, 1, 2, 3, 5] rfl K
theorem bX0_joined_1_5 {Q : Option AV → MS → Prop} (b : AH) (s : MS) (t : Nat → Int → Int) (x2 : Int) (x3 : Int) (x5 : Int) (hT : XTs b s t) (K : (x2 ≤ x5 → Q (some (vL x3)) s) ∧ (¬ x2 ≤ x5 → (0 ≤ x5 ∧ x5 < 8) ∧ (HX0_joined_1_5 Q b s t x2 (i64 ((i64 ((t 0 0) * x3)) + (s.2 1 x5))) (i32 (x5 + 1))))) : HX0_joined_1_5 Q b s t x2 x3 x5 := by
  refine JW.iload dX0_joined_5 rfl ?_
  refine JW.iload_n dX0_joined_7 rfl ?_
  refine JW.icmp_ge (tgt := 34) dX0_joined_8 rfl (fun c_1 => ?_) (fun c_1 => ?_)
  · have K := K.1 c_1
    refine JW.lload_n dX0_joined_34 rfl ?_
    exact JW.lreturn dX0_joined_35 rfl ⟨_, rfl, K⟩
  · have K := K.2 c_1
    refine JW.aload_n dX0_joined_11 rfl ?_
    refine JW.xtab (y := s.1 3) hT dX0_joined_12 fX0_48 rfl ?_
    refine JW.tget hT.2 dX0_joined_15 fX0_62 (by decide) hT.2.2.2.1.1 ?_
    refine JW.i2l dX0_joined_18 ?_
    refine JW.lload_n dX0_joined_19 rfl ?_
    refine JW.lmul dX0_joined_20 ?_
    refine JW.aload_n dX0_joined_21 rfl ?_
    refine JW.iload dX0_joined_22 rfl ?_
    obtain ⟨o_2, K⟩ := K
    refine JW.xald 1 (x := (s.2 1 x5)) dX0_joined_24 (by decide) rfl o_2.1 o_2.2 rfl ?_
    refine JW.i2l dX0_joined_25 ?_
    refine JW.ladd dX0_joined_26 ?_
    refine JW.lstore_n (ls' := [(0, vR 320), (1, vR 322), (2, vI x2), (3, vL (i64 ((i64 ((t 0 0) * x3)) + (s.2 1 x5)))), (5, vI x5)]) dX0_joined_27 (Nat.le_of_ble_eq_true rfl) rfl ?_
    refine JW.iinc (ls' := [(0, vR 320), (1, vR 322), (2, vI x2), (3, vL (i64 ((i64 ((t 0 0) * x3)) + (s.2 1 x5)))), (5, vI (i32 (x5 + 1)))]) dX0_joined_28 (Nat.le_of_ble_eq_true rfl) rfl rfl ?_
    refine JW.goto (tgt := 5) dX0_joined_31 rfl ?_
    exact JW.pick [0, 1, 2, 3, 5] rfl K
def QX0_joined_1 (s : MS) (t : Nat → Int → Int) (a2 : Int) : Option AV → MS → Prop := fun v s' => v = some (vL (hor (t 0 0) (s.2 1) (a2).toNat)) ∧ s' = s
theorem vX0_joined_1_1 (s : MS) (t : Nat → Int → Int) (a2 : Int) (hp : tOK (t 0) ∧ (0 ≤ a2 ∧ a2 ≤ t 0 1) ∧ (∀ i : Int, 0 ≤ i → i < t 0 1 → 0 ≤ (s.2 1) i ∧ (s.2 1) i < t 0 0)) (x2 : Int) (x3 : Int) (x5 : Int) (hI : x2 = a2 ∧ (0 ≤ x5 ∧ x5 ≤ a2) ∧ x3 = hor (t 0 0) (s.2 1) x5.toNat) (c_1 : x2 ≤ x5) : x3 = (hor (t 0 0) (s.2 1) (a2).toNat) := by
  obtain ⟨ht, hn, hf⟩ := hp
  have hL := tOK_L ht
  (try unfold lex3)
  (try simp only [bI_0, bI_n, Classical.not_not] at *)
  (try simp (disch := omega) only [i32_id] at *)
  first | done | omega | ((repeat' (with_reducible apply And.intro)) <;> first | assumption | rfl | omega | (rw [hI.2.2, show x5 = a2 by omega]) | (rw [hI.2.2]; exact hor_l ht hf (by omega) (by omega)) | grind [upI])
theorem vX0_joined_1_2 (s : MS) (t : Nat → Int → Int) (a2 : Int) (hp : tOK (t 0) ∧ (0 ≤ a2 ∧ a2 ≤ t 0 1) ∧ (∀ i : Int, 0 ≤ i → i < t 0 1 → 0 ≤ (s.2 1) i ∧ (s.2 1) i < t 0 0)) (x2 : Int) (x3 : Int) (x5 : Int) (hI : x2 = a2 ∧ (0 ≤ x5 ∧ x5 ≤ a2) ∧ x3 = hor (t 0 0) (s.2 1) x5.toNat) (c_1 : ¬ x2 ≤ x5) : (0 ≤ x5 ∧ x5 < 8) := by
  obtain ⟨ht, hn, hf⟩ := hp
  have hL := tOK_L ht
  (try unfold lex3)
  (try simp only [bI_0, bI_n, Classical.not_not] at *)
  (try simp (disch := omega) only [i32_id] at *)
  first | done | omega | ((repeat' (with_reducible apply And.intro)) <;> first | assumption | rfl | omega | (rw [hI.2.2, show x5 = a2 by omega]) | (rw [hI.2.2]; exact hor_l ht hf (by omega) (by omega)) | grind [upI])
theorem vX0_joined_1_3 (s : MS) (t : Nat → Int → Int) (a2 : Int) (hp : tOK (t 0) ∧ (0 ≤ a2 ∧ a2 ≤ t 0 1) ∧ (∀ i : Int, 0 ≤ i → i < t 0 1 → 0 ≤ (s.2 1) i ∧ (s.2 1) i < t 0 0)) (x2 : Int) (x3 : Int) (x5 : Int) (hI : x2 = a2 ∧ (0 ≤ x5 ∧ x5 ≤ a2) ∧ x3 = hor (t 0 0) (s.2 1) x5.toNat) (c_1 : ¬ x2 ≤ x5) (o_2 : (0 ≤ x5 ∧ x5 < 8)) : x2 = a2 ∧ (0 ≤ (i32 (x5 + 1)) ∧ (i32 (x5 + 1)) ≤ a2) ∧ (i64 ((i64 ((t 0 0) * x3)) + (s.2 1 x5))) = hor (t 0 0) (s.2 1) (i32 (x5 + 1)).toNat := by
  obtain ⟨ht, hn, hf⟩ := hp
  have hL := tOK_L ht
  (try unfold lex3)
  (try simp only [bI_0, bI_n, Classical.not_not] at *)
  (try simp (disch := omega) only [i32_id] at *)
  first | done | omega | ((repeat' (with_reducible apply And.intro)) <;> first | assumption | rfl | omega | (rw [hI.2.2, show x5 = a2 by omega]) | (rw [hI.2.2]; exact hor_l ht hf (by omega) (by omega)) | grind [upI])
theorem vX0_joined_1_4 (s : MS) (t : Nat → Int → Int) (a2 : Int) (hp : tOK (t 0) ∧ (0 ≤ a2 ∧ a2 ≤ t 0 1) ∧ (∀ i : Int, 0 ≤ i → i < t 0 1 → 0 ≤ (s.2 1) i ∧ (s.2 1) i < t 0 0)) (x2 : Int) (x3 : Int) (x5 : Int) (hI : x2 = a2 ∧ (0 ≤ x5 ∧ x5 ≤ a2) ∧ x3 = hor (t 0 0) (s.2 1) x5.toNat) (c_1 : ¬ x2 ≤ x5) (o_2 : (0 ≤ x5 ∧ x5 < 8)) : lex3 0 0 ((a2 - (i32 (x5 + 1))).toNat) 0 0 ((a2 - x5).toNat) := by
  obtain ⟨ht, hn, hf⟩ := hp
  have hL := tOK_L ht
  (try unfold lex3)
  (try simp only [bI_0, bI_n, Classical.not_not] at *)
  (try simp (disch := omega) only [i32_id] at *)
  first | done | omega | ((repeat' (with_reducible apply And.intro)) <;> first | assumption | rfl | omega | (rw [hI.2.2, show x5 = a2 by omega]) | (rw [hI.2.2]; exact hor_l ht hf (by omega) (by omega)) | grind [upI])
theorem vX0_joined_1_5 (s : MS) (t : Nat → Int → Int) (a2 : Int) (hp : tOK (t 0) ∧ (0 ≤ a2 ∧ a2 ≤ t 0 1) ∧ (∀ i : Int, 0 ≤ i → i < t 0 1 → 0 ≤ (s.2 1) i ∧ (s.2 1) i < t 0 0)) : a2 = a2 ∧ (0 ≤ (0 : Int) ∧ (0 : Int) ≤ a2) ∧ (0 : Int) = hor (t 0 0) (s.2 1) (0 : Int).toNat := by
  obtain ⟨ht, hn, hf⟩ := hp
  have hL := tOK_L ht
  (try unfold lex3)
  (try simp only [bI_0, bI_n, Classical.not_not] at *)
  (try simp (disch := omega) only [i32_id] at *)
  first | done | omega | ((repeat' (with_reducible apply And.intro)) <;> first | assumption | rfl | omega | (rw [hI.2.2, show x5 = a2 by omega]) | (rw [hI.2.2]; exact hor_l ht hf (by omega) (by omega)) | grind [upI])
theorem allX0_joined_1 (b : AH) (s : MS) (t : Nat → Int → Int) (a2 : Int) (hp : tOK (t 0) ∧ (0 ≤ a2 ∧ a2 ≤ t 0 1) ∧ (∀ i : Int, 0 ≤ i → i < t 0 1 → 0 ≤ (s.2 1) i ∧ (s.2 1) i < t 0 0)) (hT : XTs b s t) : ∀ m1 m2 m3 : Nat, (∀ (x2 : Int) (x3 : Int) (x5 : Int), m1 = 0 → m2 = 0 → m3 = ((a2 - x5).toNat) → (x2 = a2 ∧ (0 ≤ x5 ∧ x5 ≤ a2) ∧ x3 = hor (t 0 0) (s.2 1) x5.toNat) → HX0_joined_1_5 (QX0_joined_1 s t a2) b s t x2 x3 x5) := by
  refine lex3_ind ?_
  intro m1 m2 m3 ih
  rintro x2 x3 x5 rfl rfl rfl hI
  refine bX0_joined_1_5 b s t x2 x3 x5 hT ?_
  refine ⟨fun c_1 => ?_, fun c_1 => ?_⟩
  · exact ⟨(rL_c (vX0_joined_1_1 s t a2 hp x2 x3 x5 hI c_1)), rfl⟩
  · have o_2 : (0 ≤ x5 ∧ x5 < 8) := (vX0_joined_1_2 s t a2 hp x2 x3 x5 hI c_1)
    refine ⟨o_2, ?_⟩
    exact (ih _ _ _ (vX0_joined_1_4 s t a2 hp x2 x3 x5 hI c_1 o_2)) x2 (i64 ((i64 ((t 0 0) * x3)) + (s.2 1 x5))) (i32 (x5 + 1)) rfl rfl rfl (vX0_joined_1_3 s t a2 hp x2 x3 x5 hI c_1 o_2)
theorem ctX0_joined_1 (b : AH) (s : MS) (t : Nat → Int → Int) (a2 : Int) (hT : XTs b s t) (hp : tOK (t 0) ∧ (0 ≤ a2 ∧ a2 ≤ t 0 1) ∧ (∀ i : Int, 0 ≤ i → i < t 0 1 → 0 ≤ (s.2 1) i ∧ (s.2 1) i < t 0 0)) : XC mX0_joined 1 b s [vR 322, vI a2] (QX0_joined_1 s t a2) := by
  refine XC.of (by decide) rfl (Nat.le_of_ble_eq_true rfl) ?_
  refine bX0_joined_1_0 b s t a2 hT ?_
  exact (allX0_joined_1 b s t a2 hp hT _ _ _) a2 0 0 rfl rfl rfl (vX0_joined_1_5 s t a2 hp)
def HX0_joined_21_0 (Q : Option AV → MS → Prop) (b : AH) (s : MS) (t : Nat → Int → Int) (x2 : Int) : Prop := XM mX0_joined 1 Q b 0 [(0, vR 320), (1, vR 342), (2, vI x2)] [] s
def HX0_joined_21_5 (Q : Option AV → MS → Prop) (b : AH) (s : MS) (t : Nat → Int → Int) (x2 : Int) (x3 : Int) (x5 : Int) : Prop := XM mX0_joined 1 Q b 5 [(0, vR 320), (1, vR 342), (2, vI x2), (3, vL x3), (5, vI x5)] [] s
theorem bX0_joined_21_0 {Q : Option AV → MS → Prop} (b : AH) (s : MS) (t : Nat → Int → Int) (x2 : Int) (hT : XTs b s t) (K : HX0_joined_21_5 Q b s t x2 0 0) : HX0_joined_21_0 Q b s t x2 := by
  refine JW.lconst (x := 0) dX0_joined_0 rfl ?_
  refine JW.lstore_n (ls' := [(0, vR 320), (1, vR 342), (2, vI x2), (3, vL 0)]) dX0_joined_1 (Nat.le_of_ble_eq_true rfl) rfl ?_
  refine JW.iconst dX0_joined_2 rfl ?_
  refine JW.istore (ls' := [(0, vR 320), (1, vR 342), (2, vI x2), (3, vL 0), (5, vI 0)]) dX0_joined_3 (Nat.le_of_ble_eq_true rfl) rfl ?_
  exact JW.pick [0, 1, 2, 3, 5] rfl K
theorem bX0_joined_21_5 {Q : Option AV → MS → Prop} (b : AH) (s : MS) (t : Nat → Int → Int) (x2 : Int) (x3 : Int) (x5 : Int) (hT : XTs b s t) (K : (x2 ≤ x5 → Q (some (vL x3)) s) ∧ (¬ x2 ≤ x5 → (0 ≤ x5 ∧ x5 < 8) ∧ (HX0_joined_21_5 Q b s t x2 (i64 ((i64 ((t 0 0) * x3)) + (s.2 21 x5))) (i32 (x5 + 1))))) : HX0_joined_21_5 Q b s t x2 x3 x5 := by
  refine JW.iload dX0_joined_5 rfl ?_
  refine JW.iload_n dX0_joined_7 rfl ?_
  refine JW.icmp_ge (tgt := 34) dX0_joined_8 rfl (fun c_1 => ?_) (fun c_1 => ?_)
  · have K := K.1 c_1
    refine JW.lload_n dX0_joined_34 rfl ?_
    exact JW.lreturn dX0_joined_35 rfl ⟨_, rfl, K⟩
  · have K := K.2 c_1
    refine JW.aload_n dX0_joined_11 rfl ?_
    refine JW.xtab (y := s.1 3) hT dX0_joined_12 fX0_48 rfl ?_
    refine JW.tget hT.2 dX0_joined_15 fX0_62 (by decide) hT.2.2.2.1.1 ?_
    refine JW.i2l dX0_joined_18 ?_
    refine JW.lload_n dX0_joined_19 rfl ?_
    refine JW.lmul dX0_joined_20 ?_
    refine JW.aload_n dX0_joined_21 rfl ?_
    refine JW.iload dX0_joined_22 rfl ?_
    obtain ⟨o_2, K⟩ := K
    refine JW.xald 21 (x := (s.2 21 x5)) dX0_joined_24 (by decide) rfl o_2.1 o_2.2 rfl ?_
    refine JW.i2l dX0_joined_25 ?_
    refine JW.ladd dX0_joined_26 ?_
    refine JW.lstore_n (ls' := [(0, vR 320), (1, vR 342), (2, vI x2), (3, vL (i64 ((i64 ((t 0 0) * x3)) + (s.2 21 x5)))), (5, vI x5)]) dX0_joined_27 (Nat.le_of_ble_eq_true rfl) rfl ?_
    refine JW.iinc (ls' := [(0, vR 320), (1, vR 342), (2, vI x2), (3, vL (i64 ((i64 ((t 0 0) * x3)) + (s.2 21 x5)))), (5, vI (i32 (x5 + 1)))]) dX0_joined_28 (Nat.le_of_ble_eq_true rfl) rfl rfl ?_
    refine JW.goto (tgt := 5) dX0_joined_31 rfl ?_
    exact JW.pick [0, 1, 2, 3, 5] rfl K
def QX0_joined_21 (s : MS) (t : Nat → Int → Int) (a2 : Int) : Option AV → MS → Prop := fun v s' => v = some (vL (hor (t 0 0) (s.2 21) (a2).toNat)) ∧ s' = s
theorem vX0_joined_21_1 (s : MS) (t : Nat → Int → Int) (a2 : Int) (hp : tOK (t 0) ∧ (0 ≤ a2 ∧ a2 ≤ t 0 1) ∧ (∀ i : Int, 0 ≤ i → i < t 0 1 → 0 ≤ (s.2 21) i ∧ (s.2 21) i < t 0 0)) (x2 : Int) (x3 : Int) (x5 : Int) (hI : x2 = a2 ∧ (0 ≤ x5 ∧ x5 ≤ a2) ∧ x3 = hor (t 0 0) (s.2 21) x5.toNat) (c_1 : x2 ≤ x5) : x3 = (hor (t 0 0) (s.2 21) (a2).toNat) := by
  obtain ⟨ht, hn, hf⟩ := hp
  have hL := tOK_L ht
  (try unfold lex3)
  (try simp only [bI_0, bI_n, Classical.not_not] at *)
  (try simp (disch := omega) only [i32_id] at *)
  first | done | omega | ((repeat' (with_reducible apply And.intro)) <;> first | assumption | rfl | omega | (rw [hI.2.2, show x5 = a2 by omega]) | (rw [hI.2.2]; exact hor_l ht hf (by omega) (by omega)) | grind [upI])
theorem vX0_joined_21_2 (s : MS) (t : Nat → Int → Int) (a2 : Int) (hp : tOK (t 0) ∧ (0 ≤ a2 ∧ a2 ≤ t 0 1) ∧ (∀ i : Int, 0 ≤ i → i < t 0 1 → 0 ≤ (s.2 21) i ∧ (s.2 21) i < t 0 0)) (x2 : Int) (x3 : Int) (x5 : Int) (hI : x2 = a2 ∧ (0 ≤ x5 ∧ x5 ≤ a2) ∧ x3 = hor (t 0 0) (s.2 21) x5.toNat) (c_1 : ¬ x2 ≤ x5) : (0 ≤ x5 ∧ x5 < 8) := by
  obtain ⟨ht, hn, hf⟩ := hp
  have hL := tOK_L ht
  (try unfold lex3)
  (try simp only [bI_0, bI_n, Classical.not_not] at *)
  (try simp (disch := omega) only [i32_id] at *)
  first | done | omega | ((repeat' (with_reducible apply And.intro)) <;> first | assumption | rfl | omega | (rw [hI.2.2, show x5 = a2 by omega]) | (rw [hI.2.2]; exact hor_l ht hf (by omega) (by omega)) | grind [upI])
theorem vX0_joined_21_3 (s : MS) (t : Nat → Int → Int) (a2 : Int) (hp : tOK (t 0) ∧ (0 ≤ a2 ∧ a2 ≤ t 0 1) ∧ (∀ i : Int, 0 ≤ i → i < t 0 1 → 0 ≤ (s.2 21) i ∧ (s.2 21) i < t 0 0)) (x2 : Int) (x3 : Int) (x5 : Int) (hI : x2 = a2 ∧ (0 ≤ x5 ∧ x5 ≤ a2) ∧ x3 = hor (t 0 0) (s.2 21) x5.toNat) (c_1 : ¬ x2 ≤ x5) (o_2 : (0 ≤ x5 ∧ x5 < 8)) : x2 = a2 ∧ (0 ≤ (i32 (x5 + 1)) ∧ (i32 (x5 + 1)) ≤ a2) ∧ (i64 ((i64 ((t 0 0) * x3)) + (s.2 21 x5))) = hor (t 0 0) (s.2 21) (i32 (x5 + 1)).toNat := by
  obtain ⟨ht, hn, hf⟩ := hp
  have hL := tOK_L ht
  (try unfold lex3)
  (try simp only [bI_0, bI_n, Classical.not_not] at *)
  (try simp (disch := omega) only [i32_id] at *)
  first | done | omega | ((repeat' (with_reducible apply And.intro)) <;> first | assumption | rfl | omega | (rw [hI.2.2, show x5 = a2 by omega]) | (rw [hI.2.2]; exact hor_l ht hf (by omega) (by omega)) | grind [upI])
theorem vX0_joined_21_4 (s : MS) (t : Nat → Int → Int) (a2 : Int) (hp : tOK (t 0) ∧ (0 ≤ a2 ∧ a2 ≤ t 0 1) ∧ (∀ i : Int, 0 ≤ i → i < t 0 1 → 0 ≤ (s.2 21) i ∧ (s.2 21) i < t 0 0)) (x2 : Int) (x3 : Int) (x5 : Int) (hI : x2 = a2 ∧ (0 ≤ x5 ∧ x5 ≤ a2) ∧ x3 = hor (t 0 0) (s.2 21) x5.toNat) (c_1 : ¬ x2 ≤ x5) (o_2 : (0 ≤ x5 ∧ x5 < 8)) : lex3 0 0 ((a2 - (i32 (x5 + 1))).toNat) 0 0 ((a2 - x5).toNat) := by
  obtain ⟨ht, hn, hf⟩ := hp
  have hL := tOK_L ht
  (try unfold lex3)
  (try simp only [bI_0, bI_n, Classical.not_not] at *)
  (try simp (disch := omega) only [i32_id] at *)
  first | done | omega | ((repeat' (with_reducible apply And.intro)) <;> first | assumption | rfl | omega | (rw [hI.2.2, show x5 = a2 by omega]) | (rw [hI.2.2]; exact hor_l ht hf (by omega) (by omega)) | grind [upI])
theorem vX0_joined_21_5 (s : MS) (t : Nat → Int → Int) (a2 : Int) (hp : tOK (t 0) ∧ (0 ≤ a2 ∧ a2 ≤ t 0 1) ∧ (∀ i : Int, 0 ≤ i → i < t 0 1 → 0 ≤ (s.2 21) i ∧ (s.2 21) i < t 0 0)) : a2 = a2 ∧ (0 ≤ (0 : Int) ∧ (0 : Int) ≤ a2) ∧ (0 : Int) = hor (t 0 0) (s.2 21) (0 : Int).toNat := by
  obtain ⟨ht, hn, hf⟩ := hp
  have hL := tOK_L ht
  (try unfold lex3)
  (try simp only [bI_0, bI_n, Classical.not_not] at *)
  (try simp (disch := omega) only [i32_id] at *)
  first | done | omega | ((repeat' (with_reducible apply And.intro)) <;> first | assumption | rfl | omega | (rw [hI.2.2, show x5 = a2 by omega]) | (rw [hI.2.2]; exact hor_l ht hf (by omega) (by omega)) | grind [upI])
theorem allX0_joined_21 (b : AH) (s : MS) (t : Nat → Int → Int) (a2 : Int) (hp : tOK (t 0) ∧ (0 ≤ a2 ∧ a2 ≤ t 0 1) ∧ (∀ i : Int, 0 ≤ i → i < t 0 1 → 0 ≤ (s.2 21) i ∧ (s.2 21) i < t 0 0)) (hT : XTs b s t) : ∀ m1 m2 m3 : Nat, (∀ (x2 : Int) (x3 : Int) (x5 : Int), m1 = 0 → m2 = 0 → m3 = ((a2 - x5).toNat) → (x2 = a2 ∧ (0 ≤ x5 ∧ x5 ≤ a2) ∧ x3 = hor (t 0 0) (s.2 21) x5.toNat) → HX0_joined_21_5 (QX0_joined_21 s t a2) b s t x2 x3 x5) := by
  refine lex3_ind ?_
  intro m1 m2 m3 ih
  rintro x2 x3 x5 rfl rfl rfl hI
  refine bX0_joined_21_5 b s t x2 x3 x5 hT ?_
  refine ⟨fun c_1 => ?_, fun c_1 => ?_⟩
  · exact ⟨(rL_c (vX0_joined_21_1 s t a2 hp x2 x3 x5 hI c_1)), rfl⟩
  · have o_2 : (0 ≤ x5 ∧ x5 < 8) := (vX0_joined_21_2 s t a2 hp x2 x3 x5 hI c_1)
    refine ⟨o_2, ?_⟩
    exact (ih _ _ _ (vX0_joined_21_4 s t a2 hp x2 x3 x5 hI c_1 o_2)) x2 (i64 ((i64 ((t 0 0) * x3)) + (s.2 21 x5))) (i32 (x5 + 1)) rfl rfl rfl (vX0_joined_21_3 s t a2 hp x2 x3 x5 hI c_1 o_2)
theorem ctX0_joined_21 (b : AH) (s : MS) (t : Nat → Int → Int) (a2 : Int) (hT : XTs b s t) (hp : tOK (t 0) ∧ (0 ≤ a2 ∧ a2 ≤ t 0 1) ∧ (∀ i : Int, 0 ≤ i → i < t 0 1 → 0 ≤ (s.2 21) i ∧ (s.2 21) i < t 0 0)) : XC mX0_joined 1 b s [vR 342, vI a2] (QX0_joined_21 s t a2) := by
  refine XC.of (by decide) rfl (Nat.le_of_ble_eq_true rfl) ?_
  refine bX0_joined_21_0 b s t a2 hT ?_
  exact (allX0_joined_21 b s t a2 hp hT _ _ _) a2 0 0 rfl rfl rfl (vX0_joined_21_5 s t a2 hp)
