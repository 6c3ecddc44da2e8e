/-! contracts of the component: J3_min J3_max J3_abs laysRound -/
set_option maxRecDepth 100000
def HJ3_min_0 (Q : Option AV → MS → Prop) (b : AH) (s : MS) (x0 : Int) (x1 : Int) : Prop := XM mJ3_min 1 Q b 0 [(0, vI x0), (1, vI x1)] [] s
theorem bJ3_min_0 {Q : Option AV → MS → Prop} (b : AH) (s : MS) (x0 : Int) (x1 : Int) (K : (x1 < x0 → Q (some (vI x1)) s) ∧ (¬ x1 < x0 → Q (some (vI x0)) s)) : HJ3_min_0 Q b s x0 x1 := by
  refine JW.iload_n dJ3_min_0 rfl ?_
  refine JW.iload_n dJ3_min_1 rfl ?_
  refine JW.icmp_gt (tgt := 9) dJ3_min_2 rfl (fun c_1 => ?_) (fun c_1 => ?_)
  · have K := K.1 c_1
    refine JW.iload_n dJ3_min_9 rfl ?_
    exact JW.ireturn dJ3_min_10 rfl rfl ⟨_, rfl, K⟩
  · have K := K.2 c_1
    refine JW.iload_n dJ3_min_5 rfl ?_
    refine JW.goto (tgt := 10) dJ3_min_6 rfl ?_
    exact JW.ireturn dJ3_min_10 rfl rfl ⟨_, rfl, K⟩
def QJ3_min (s : MS) (a1 : Int) (a2 : Int) : Option AV → MS → Prop := fun v s' => v = some (vI (if a1 ≤ a2 then a1 else a2)) ∧ s' = s
theorem vJ3_min_1 (s : MS) (a1 : Int) (a2 : Int) (c_1 : a2 < a1) : a2 = (if a1 ≤ a2 then a1 else a2) := by
  (try unfold lex3)
  (try simp only [bI_0, bI_n, Classical.not_not] at *)
  (try simp (disch := omega) only [i32_id] at *)
  first | done | omega | ((repeat' (with_reducible apply And.intro)) <;> first | assumption | rfl | omega | (rw [if_pos (by omega)]) | (rw [if_neg (by omega)]) | grind [upI])
theorem vJ3_min_2 (s : MS) (a1 : Int) (a2 : Int) (c_1 : ¬ a2 < a1) : a1 = (if a1 ≤ a2 then a1 else a2) := by
  (try unfold lex3)
  (try simp only [bI_0, bI_n, Classical.not_not] at *)
  (try simp (disch := omega) only [i32_id] at *)
  first | done | omega | ((repeat' (with_reducible apply And.intro)) <;> first | assumption | rfl | omega | (rw [if_pos (by omega)]) | (rw [if_neg (by omega)]) | grind [upI])
theorem ctJ3_min (b : AH) (s : MS) (a1 : Int) (a2 : Int) : XCS mJ3_min 1 b s [vI a1, vI a2] (QJ3_min s a1 a2) := by
  refine XCS.ofF (by decide +kernel) rfl (Nat.le_of_ble_eq_true rfl) ?_
  refine bJ3_min_0 b s a1 a2 ?_
  refine ⟨fun c_1 => ?_, fun c_1 => ?_⟩
  · exact ⟨(rI_c (vJ3_min_1 s a1 a2 c_1)), rfl⟩
  · exact ⟨(rI_c (vJ3_min_2 s a1 a2 c_1)), rfl⟩
def HJ3_max_0 (Q : Option AV → MS → Prop) (b : AH) (s : MS) (x0 : Int) (x1 : Int) : Prop := XM mJ3_max 1 Q b 0 [(0, vI x0), (1, vI x1)] [] s
theorem bJ3_max_0 {Q : Option AV → MS → Prop} (b : AH) (s : MS) (x0 : Int) (x1 : Int) (K : (x0 < x1 → Q (some (vI x1)) s) ∧ (¬ x0 < x1 → Q (some (vI x0)) s)) : HJ3_max_0 Q b s x0 x1 := by
  refine JW.iload_n dJ3_max_0 rfl ?_
  refine JW.iload_n dJ3_max_1 rfl ?_
  refine JW.icmp_lt (tgt := 9) dJ3_max_2 rfl (fun c_1 => ?_) (fun c_1 => ?_)
  · have K := K.1 c_1
    refine JW.iload_n dJ3_max_9 rfl ?_
    exact JW.ireturn dJ3_max_10 rfl rfl ⟨_, rfl, K⟩
  · have K := K.2 c_1
    refine JW.iload_n dJ3_max_5 rfl ?_
    refine JW.goto (tgt := 10) dJ3_max_6 rfl ?_
    exact JW.ireturn dJ3_max_10 rfl rfl ⟨_, rfl, K⟩
def QJ3_max (s : MS) (a1 : Int) (a2 : Int) : Option AV → MS → Prop := fun v s' => v = some (vI (if a1 ≤ a2 then a2 else a1)) ∧ s' = s
theorem vJ3_max_1 (s : MS) (a1 : Int) (a2 : Int) (c_1 : a1 < a2) : a2 = (if a1 ≤ a2 then a2 else a1) := by
  by_cases c : a1 ≤ a2
  · rw [if_pos c]; first | done | rfl | omega
  · rw [if_neg c]; first | done | rfl | omega
theorem vJ3_max_2 (s : MS) (a1 : Int) (a2 : Int) (c_1 : ¬ a1 < a2) : a1 = (if a1 ≤ a2 then a2 else a1) := by
  by_cases c : a1 ≤ a2
  · rw [if_pos c]; first | done | rfl | omega
  · rw [if_neg c]; first | done | rfl | omega
theorem ctJ3_max (b : AH) (s : MS) (a1 : Int) (a2 : Int) : XCS mJ3_max 1 b s [vI a1, vI a2] (QJ3_max s a1 a2) := by
  refine XCS.ofF (by decide +kernel) rfl (Nat.le_of_ble_eq_true rfl) ?_
  refine bJ3_max_0 b s a1 a2 ?_
  refine ⟨fun c_1 => ?_, fun c_1 => ?_⟩
  · exact ⟨(rI_c (vJ3_max_1 s a1 a2 c_1)), rfl⟩
  · exact ⟨(rI_c (vJ3_max_2 s a1 a2 c_1)), rfl⟩
def HJ3_abs_0 (Q : Option AV → MS → Prop) (b : AH) (s : MS) (x0 : Int) : Prop := XM mJ3_abs 1 Q b 0 [(0, vI x0)] [] s
theorem bJ3_abs_0 {Q : Option AV → MS → Prop} (b : AH) (s : MS) (x0 : Int) (K : (0 ≤ x0 → Q (some (vI x0)) s) ∧ (¬ 0 ≤ x0 → Q (some (vI (i32 (-x0)))) s)) : HJ3_abs_0 Q b s x0 := by
  refine JW.iload_n dJ3_abs_0 rfl ?_
  refine JW.if_ge (tgt := 9) dJ3_abs_1 rfl (fun c_1 => ?_) (fun c_1 => ?_)
  · have K := K.1 c_1
    refine JW.iload_n dJ3_abs_9 rfl ?_
    exact JW.ireturn dJ3_abs_10 rfl rfl ⟨_, rfl, K⟩
  · have K := K.2 c_1
    refine JW.iload_n dJ3_abs_4 rfl ?_
    refine JW.ineg dJ3_abs_5 ?_
    refine JW.goto (tgt := 10) dJ3_abs_6 rfl ?_
    exact JW.ireturn dJ3_abs_10 rfl rfl ⟨_, rfl, K⟩
def QJ3_abs (s : MS) (a1 : Int) : Option AV → MS → Prop := fun v s' => v = some (vI (if a1 < 0 then -a1 else a1)) ∧ s' = s
theorem vJ3_abs_1 (s : MS) (a1 : Int) (hp : -2147483648 < a1) (c_1 : 0 ≤ a1) : a1 = (if a1 < 0 then -a1 else a1) := by
  (try unfold lex3)
  (try simp only [bI_0, bI_n, Classical.not_not] at *)
  (try simp (disch := omega) only [i32_id] at *)
  first | done | omega | ((repeat' (with_reducible apply And.intro)) <;> first | assumption | rfl | omega | (rw [if_pos (by omega), i32_id (by omega) (by omega)]) | (rw [if_neg (by omega)]) | grind [upI])
theorem vJ3_abs_2 (s : MS) (a1 : Int) (hp : -2147483648 < a1) (c_1 : ¬ 0 ≤ a1) : (i32 (-a1)) = (if a1 < 0 then -a1 else a1) := by
  (try unfold lex3)
  (try simp only [bI_0, bI_n, Classical.not_not] at *)
  (try simp (disch := omega) only [i32_id] at *)
  first | done | omega | ((repeat' (with_reducible apply And.intro)) <;> first | assumption | rfl | omega | (rw [if_pos (by omega), i32_id (by omega) (by omega)]) | (rw [if_neg (by omega)]) | grind [upI])
theorem ctJ3_abs (b : AH) (s : MS) (a1 : Int) (hp : -2147483648 < a1) : XCS mJ3_abs 1 b s [vI a1] (QJ3_abs s a1) := by
  refine XCS.ofF (by decide +kernel) rfl (Nat.le_of_ble_eq_true rfl) ?_
  refine bJ3_abs_0 b s a1 ?_
  refine ⟨fun c_1 => ?_, fun c_1 => ?_⟩
  · exact ⟨(rI_c (vJ3_abs_1 s a1 hp c_1)), rfl⟩
  · exact ⟨(rI_c (vJ3_abs_2 s a1 hp c_1)), rfl⟩
def HX0_laysRound_0 (Q : Option AV → MS → Prop) (b : AH) (s : MS) (t : Nat → Int → Int) (x1 : Int) (x2 : Int) (f14 : Int → Int) (f15 : Int → Int) (f16 : Int → Int) : Prop := XM mX0_laysRound 2 Q b 0 [(0, vR 320), (1, vI x1), (2, vI x2)] [] (sA (sA (sA s 14 f14) 15 f15) 16 f16)
def HX0_laysRound_10 (Q : Option AV → MS → Prop) (b : AH) (s : MS) (t : Nat → Int → Int) (x1 : Int) (x2 : Int) (x3 : Int) (x4 : Int) (f14 : Int → Int) (f15 : Int → Int) (f16 : Int → Int) : Prop := XM mX0_laysRound 2 Q b 10 [(0, vR 320), (1, vI x1), (2, vI x2), (3, vI x3), (4, vI x4)] [] (sA (sA (sA s 14 f14) 15 f15) 16 f16)
def HX0_laysRound_37 (Q : Option AV → MS → Prop) (b : AH) (s : MS) (t : Nat → Int → Int) (x1 : Int) (x2 : Int) (x3 : Int) (x4 : Int) (f14 : Int → Int) (f15 : Int → Int) (f16 : Int → Int) : Prop := XM mX0_laysRound 2 Q b 37 [(0, vR 320), (1, vI x1), (2, vI x2), (3, vI x3), (4, vI x4)] [] (sA (sA (sA s 14 f14) 15 f15) 16 f16)
theorem bX0_laysRound_0 {Q : Option AV → MS → Prop} (b : AH) (s : MS) (t : Nat → Int → Int) (x1 : Int) (x2 : Int) (f14 : Int → Int) (f15 : Int → Int) (f16 : Int → Int) (hT : XTs b s t) (K : (0 ≤ x1 ∧ x1 < 10000) ∧ (HX0_laysRound_10 Q b s t x1 x2 (s.2 17 x1) x1 f14 f15 f16)) : HX0_laysRound_0 Q b s t x1 x2 f14 f15 f16 := by
  refine JW.aload_n dX0_laysRound_0 rfl ?_
  refine JW.xget (v := vR 338) dX0_laysRound_1 fX0_132 rfl ?_
  refine JW.iload_n dX0_laysRound_4 rfl ?_
  obtain ⟨o_1, K⟩ := K
  refine JW.xald 17 (x := (s.2 17 x1)) dX0_laysRound_5 (by decide) rfl o_1.1 o_1.2 rfl ?_
  refine JW.istore_n (ls' := [(0, vR 320), (1, vI x1), (2, vI x2), (3, vI (s.2 17 x1))]) dX0_laysRound_6 (Nat.le_of_ble_eq_true rfl) rfl ?_
  refine JW.iload_n dX0_laysRound_7 rfl ?_
  refine JW.istore (ls' := [(0, vR 320), (1, vI x1), (2, vI x2), (3, vI (s.2 17 x1)), (4, vI x1)]) dX0_laysRound_8 (Nat.le_of_ble_eq_true rfl) rfl ?_
  exact JW.pick [0, 1, 2, 3, 4] rfl K
theorem bX0_laysRound_10 {Q : Option AV → MS → Prop} (b : AH) (s : MS) (t : Nat → Int → Int) (x1 : Int) (x2 : Int) (x3 : Int) (x4 : Int) (f14 : Int → Int) (f15 : Int → Int) (f16 : Int → Int) (hT : XTs b s t) (K : (x2 ≤ x4 → HX0_laysRound_37 Q b s t x1 x2 x3 x1 f14 f15 f16) ∧ (¬ x2 ≤ x4 → (0 ≤ x4 ∧ x4 < 10000) ∧ (HX0_laysRound_10 Q b s t x1 x2 (if x3 ≤ (s.2 17 x4) then x3 else (s.2 17 x4)) (i32 (x4 + 1)) f14 f15 f16))) : HX0_laysRound_10 Q b s t x1 x2 x3 x4 f14 f15 f16 := by
  refine JW.iload dX0_laysRound_10 rfl ?_
  refine JW.iload_n dX0_laysRound_12 rfl ?_
  refine JW.icmp_ge (tgt := 34) dX0_laysRound_13 rfl (fun c_1 => ?_) (fun c_1 => ?_)
  · have K := K.1 c_1
    refine JW.iload_n dX0_laysRound_34 rfl ?_
    refine JW.istore (ls' := [(0, vR 320), (1, vI x1), (2, vI x2), (3, vI x3), (4, vI x1)]) dX0_laysRound_35 (Nat.le_of_ble_eq_true rfl) rfl ?_
    exact JW.pick [0, 1, 2, 3, 4] rfl K
  · have K := K.2 c_1
    refine JW.iload_n dX0_laysRound_16 rfl ?_
    refine JW.aload_n dX0_laysRound_17 rfl ?_
    refine JW.xget (v := vR 338) dX0_laysRound_18 fX0_132 rfl ?_
    refine JW.iload dX0_laysRound_21 rfl ?_
    obtain ⟨o_2, K⟩ := K
    refine JW.xald 17 (x := (s.2 17 x4)) dX0_laysRound_23 (by decide) rfl o_2.1 o_2.2 rfl ?_
    refine JW.xcallS (As := [vI x3, vI (s.2 17 x4)]) dX0_laysRound_24 vJ3_min q1088 (ctJ3_min b (sA (sA (sA s 14 f14) 15 f15) 16 f16) x3 (s.2 17 x4)) (Nat.le_of_ble_eq_true rfl) rfl (Nat.le_of_ble_eq_true rfl) ?_
    rintro _ _ ⟨rfl, eq_3⟩
    refine JW.xsteq (s2 := sA (sA (sA s 14 f14) 15 f15) 16 f16) eq_3 ?_
    refine JW.istore_n (ls' := [(0, vR 320), (1, vI x1), (2, vI x2), (3, vI (if x3 ≤ (s.2 17 x4) then x3 else (s.2 17 x4))), (4, vI x4)]) dX0_laysRound_27 (Nat.le_of_ble_eq_true rfl) rfl ?_
    refine JW.iinc (ls' := [(0, vR 320), (1, vI x1), (2, vI x2), (3, vI (if x3 ≤ (s.2 17 x4) then x3 else (s.2 17 x4))), (4, vI (i32 (x4 + 1)))]) dX0_laysRound_28 (Nat.le_of_ble_eq_true rfl) rfl rfl ?_
    refine JW.goto (tgt := 10) dX0_laysRound_31 rfl ?_
    exact JW.pick [0, 1, 2, 3, 4] rfl K
theorem bX0_laysRound_37 {Q : Option AV → MS → Prop} (b : AH) (s : MS) (t : Nat → Int → Int) (x1 : Int) (x2 : Int) (x3 : Int) (x4 : Int) (f14 : Int → Int) (f15 : Int → Int) (f16 : Int → Int) (hT : XTs b s t) (K : (x2 ≤ x4 → Q none (sA (sA (sA s 14 f14) 15 f15) 16 f16)) ∧ (¬ x2 ≤ x4 → (0 ≤ x4 ∧ x4 < 10000) ∧ ((0 ≤ (s.2 17 x4) ∧ (s.2 17 x4) < 10000) ∧ (HX0_laysRound_37 Q b s t x1 x2 x3 (i32 (x4 + 1)) (upI f14 (s.2 17 x4) 0) (upI f15 (s.2 17 x4) x3) (upI f16 (s.2 17 x4) (i32 (x2 - x1))))))) : HX0_laysRound_37 Q b s t x1 x2 x3 x4 f14 f15 f16 := by
  refine JW.iload dX0_laysRound_37 rfl ?_
  refine JW.iload_n dX0_laysRound_39 rfl ?_
  refine JW.icmp_ge (tgt := 90) dX0_laysRound_40 rfl (fun c_1 => ?_) (fun c_1 => ?_)
  · have K := K.1 c_1
    exact JW.vreturn dX0_laysRound_90 rfl ⟨_, rfl, K⟩
  · have K := K.2 c_1
    refine JW.aload_n dX0_laysRound_43 rfl ?_
    refine JW.xget (v := vR 335) dX0_laysRound_44 fX0_123 rfl ?_
    refine JW.aload_n dX0_laysRound_47 rfl ?_
    refine JW.xget (v := vR 338) dX0_laysRound_48 fX0_132 rfl ?_
    refine JW.iload dX0_laysRound_51 rfl ?_
    obtain ⟨o_2, K⟩ := K
    refine JW.xald 17 (x := (s.2 17 x4)) dX0_laysRound_53 (by decide) rfl o_2.1 o_2.2 rfl ?_
    refine JW.iconst dX0_laysRound_54 rfl ?_
    obtain ⟨o_3, K⟩ := K
    refine JW.xast 14 (f := f14) dX0_laysRound_55 (by decide) rfl o_3.1 o_3.2 rfl ?_
    refine JW.xsteq (s2 := sA (sA (sA s 14 (upI f14 (s.2 17 x4) 0)) 15 f15) 16 f16) (by simp only [sA_A, sS_S, sA_S, sA_lt, sS_lt, Nat.reduceLT, id_eq] <;> rfl) ?_
    refine JW.aload_n dX0_laysRound_56 rfl ?_
    refine JW.xget (v := vR 336) dX0_laysRound_57 fX0_126 rfl ?_
    refine JW.aload_n dX0_laysRound_60 rfl ?_
    refine JW.xget (v := vR 338) dX0_laysRound_61 fX0_132 rfl ?_
    refine JW.iload dX0_laysRound_64 rfl ?_
    refine JW.xald 17 (x := (s.2 17 x4)) dX0_laysRound_66 (by decide) rfl o_2.1 o_2.2 rfl ?_
    refine JW.iload_n dX0_laysRound_67 rfl ?_
    refine JW.xast 15 (f := f15) dX0_laysRound_68 (by decide) rfl o_3.1 o_3.2 rfl ?_
    refine JW.xsteq (s2 := sA (sA (sA s 14 (upI f14 (s.2 17 x4) 0)) 15 (upI f15 (s.2 17 x4) x3)) 16 f16) (by simp only [sA_A, sS_S, sA_S, sA_lt, sS_lt, Nat.reduceLT, id_eq] <;> rfl) ?_
    refine JW.aload_n dX0_laysRound_69 rfl ?_
    refine JW.xget (v := vR 337) dX0_laysRound_70 fX0_129 rfl ?_
    refine JW.aload_n dX0_laysRound_73 rfl ?_
    refine JW.xget (v := vR 338) dX0_laysRound_74 fX0_132 rfl ?_
    refine JW.iload dX0_laysRound_77 rfl ?_
    refine JW.xald 17 (x := (s.2 17 x4)) dX0_laysRound_79 (by decide) rfl o_2.1 o_2.2 rfl ?_
    refine JW.iload_n dX0_laysRound_80 rfl ?_
    refine JW.iload_n dX0_laysRound_81 rfl ?_
    refine JW.isub dX0_laysRound_82 ?_
    refine JW.xast 16 (f := f16) dX0_laysRound_83 (by decide) rfl o_3.1 o_3.2 rfl ?_
    refine JW.xsteq (s2 := sA (sA (sA s 14 (upI f14 (s.2 17 x4) 0)) 15 (upI f15 (s.2 17 x4) x3)) 16 (upI f16 (s.2 17 x4) (i32 (x2 - x1)))) (by simp only [sA_A, sS_S, sA_S, sA_lt, sS_lt, Nat.reduceLT, id_eq] <;> rfl) ?_
    refine JW.iinc (ls' := [(0, vR 320), (1, vI x1), (2, vI x2), (3, vI x3), (4, vI (i32 (x4 + 1)))]) dX0_laysRound_84 (Nat.le_of_ble_eq_true rfl) rfl rfl ?_
    refine JW.goto (tgt := 37) dX0_laysRound_87 rfl ?_
    exact JW.pick [0, 1, 2, 3, 4] rfl K
def QX0_laysRound (s : MS) (t : Nat → Int → Int) (a1 : Int) (a2 : Int) : Option AV → MS → Prop := fun v s' => ∃ (f14 : Int → Int) (f15 : Int → Int) (f16 : Int → Int), v = none ∧ s' = sA (sA (sA s 14 f14) 15 f15) 16 f16 ∧ (lrQ (s.2 17) a1 a2 (s.2 14) (s.2 15) (s.2 16) f14 f15 f16)
theorem vX0_laysRound_1 (s : MS) (t : Nat → Int → Int) (a1 : Int) (a2 : Int) (hp : (0 ≤ a1 ∧ a1 < a2 ∧ a2 ≤ 10000) ∧ ∀ i : Int, a1 ≤ i → i < a2 → 0 ≤ (s.2 17) i ∧ (s.2 17) i < 10000) (x1 : Int) (x2 : Int) (x3 : Int) (x4 : Int) (f14 : Int → Int) (f15 : Int → Int) (f16 : Int → Int) (hI : (x1 = a1 ∧ x2 = a2) ∧ (a1 ≤ x4 ∧ x4 ≤ a2) ∧ (f14 = s.2 14 ∧ f15 = s.2 15 ∧ f16 = s.2 16) ∧ lwP (s.2 17) a1 a2 x4 x3) (c_1 : x2 ≤ x4) : (x1 = a1 ∧ x2 = a2) ∧ (a1 ≤ x1 ∧ x1 ≤ a2) ∧ lwP (s.2 17) a1 a2 a2 x3 ∧ lrP (s.2 17) a1 a2 x1 x3 (s.2 14) (s.2 15) (s.2 16) f14 f15 f16 := by
  obtain ⟨hp, hr⟩ := hp
  (try have hr4 := hr x4 (by omega) (by omega))
  (try have hr1 := hr a1 (by omega) (by omega))
  (try unfold lex3)
  (try simp only [bI_0, bI_n, Classical.not_not] at *)
  (try simp (disch := omega) only [i32_id] at *)
  first | done | omega | ((repeat' (with_reducible apply And.intro)) <;> first | assumption | rfl | omega | (exact ⟨x3, hI.2.2.1, (show x4 = a2 by omega) ▸ hI.2.2.2⟩) | (exact hI.2.2.1.1) | (exact hI.2.2.1.2.1) | (exact hI.2.2.1.2.2) | (have e9 : x4 = a2 := by omega; have h9 := hI.2.2.2; rw [e9] at h9; exact h9) | (exact lwP_s hI.2.2.2 (by omega) (by omega) rfl) | (have h9 := hI.2.2.2; have e9 : x4 = a2 := by omega; rw [e9] at h9; exact ⟨x3, hI.2.2.1, h9⟩) | (exact hI.2.2.1) | (exact lrP_s hI.2.2.2 (by omega) (by omega)) | (rw [hI.2.2.1.1, hI.2.2.1.2.1, hI.2.2.1.2.2, hI.1.1]; exact lrP_0) | (exact ⟨⟨a1, ⟨by omega, by omega⟩, rfl⟩, fun i i0 i1 => by omega⟩) | grind [upI])
theorem vX0_laysRound_2 (s : MS) (t : Nat → Int → Int) (a1 : Int) (a2 : Int) (hp : (0 ≤ a1 ∧ a1 < a2 ∧ a2 ≤ 10000) ∧ ∀ i : Int, a1 ≤ i → i < a2 → 0 ≤ (s.2 17) i ∧ (s.2 17) i < 10000) (x1 : Int) (x2 : Int) (x3 : Int) (x4 : Int) (f14 : Int → Int) (f15 : Int → Int) (f16 : Int → Int) (hI : (x1 = a1 ∧ x2 = a2) ∧ (a1 ≤ x4 ∧ x4 ≤ a2) ∧ (f14 = s.2 14 ∧ f15 = s.2 15 ∧ f16 = s.2 16) ∧ lwP (s.2 17) a1 a2 x4 x3) (c_1 : x2 ≤ x4) : lex3 0 0 ((a2 - x1).toNat) 0 1 ((a2 - x4).toNat) := by
  obtain ⟨hp, hr⟩ := hp
  (try have hr4 := hr x4 (by omega) (by omega))
  (try have hr1 := hr a1 (by omega) (by omega))
  (try unfold lex3)
  (try simp only [bI_0, bI_n, Classical.not_not] at *)
  (try simp (disch := omega) only [i32_id] at *)
  first | done | omega | ((repeat' (with_reducible apply And.intro)) <;> first | assumption | rfl | omega | (exact ⟨x3, hI.2.2.1, (show x4 = a2 by omega) ▸ hI.2.2.2⟩) | (exact hI.2.2.1.1) | (exact hI.2.2.1.2.1) | (exact hI.2.2.1.2.2) | (have e9 : x4 = a2 := by omega; have h9 := hI.2.2.2; rw [e9] at h9; exact h9) | (exact lwP_s hI.2.2.2 (by omega) (by omega) rfl) | (have h9 := hI.2.2.2; have e9 : x4 = a2 := by omega; rw [e9] at h9; exact ⟨x3, hI.2.2.1, h9⟩) | (exact hI.2.2.1) | (exact lrP_s hI.2.2.2 (by omega) (by omega)) | (rw [hI.2.2.1.1, hI.2.2.1.2.1, hI.2.2.1.2.2, hI.1.1]; exact lrP_0) | (exact ⟨⟨a1, ⟨by omega, by omega⟩, rfl⟩, fun i i0 i1 => by omega⟩) | grind [upI])
theorem vX0_laysRound_3 (s : MS) (t : Nat → Int → Int) (a1 : Int) (a2 : Int) (hp : (0 ≤ a1 ∧ a1 < a2 ∧ a2 ≤ 10000) ∧ ∀ i : Int, a1 ≤ i → i < a2 → 0 ≤ (s.2 17) i ∧ (s.2 17) i < 10000) (x1 : Int) (x2 : Int) (x3 : Int) (x4 : Int) (f14 : Int → Int) (f15 : Int → Int) (f16 : Int → Int) (hI : (x1 = a1 ∧ x2 = a2) ∧ (a1 ≤ x4 ∧ x4 ≤ a2) ∧ (f14 = s.2 14 ∧ f15 = s.2 15 ∧ f16 = s.2 16) ∧ lwP (s.2 17) a1 a2 x4 x3) (c_1 : ¬ x2 ≤ x4) : (0 ≤ x4 ∧ x4 < 10000) := by
  obtain ⟨hp, hr⟩ := hp
  (try have hr4 := hr x4 (by omega) (by omega))
  (try have hr1 := hr a1 (by omega) (by omega))
  (try unfold lex3)
  (try simp only [bI_0, bI_n, Classical.not_not] at *)
  (try simp (disch := omega) only [i32_id] at *)
  first | done | omega | ((repeat' (with_reducible apply And.intro)) <;> first | assumption | rfl | omega | (exact ⟨x3, hI.2.2.1, (show x4 = a2 by omega) ▸ hI.2.2.2⟩) | (exact hI.2.2.1.1) | (exact hI.2.2.1.2.1) | (exact hI.2.2.1.2.2) | (have e9 : x4 = a2 := by omega; have h9 := hI.2.2.2; rw [e9] at h9; exact h9) | (exact lwP_s hI.2.2.2 (by omega) (by omega) rfl) | (have h9 := hI.2.2.2; have e9 : x4 = a2 := by omega; rw [e9] at h9; exact ⟨x3, hI.2.2.1, h9⟩) | (exact hI.2.2.1) | (exact lrP_s hI.2.2.2 (by omega) (by omega)) | (rw [hI.2.2.1.1, hI.2.2.1.2.1, hI.2.2.1.2.2, hI.1.1]; exact lrP_0) | (exact ⟨⟨a1, ⟨by omega, by omega⟩, rfl⟩, fun i i0 i1 => by omega⟩) | grind [upI])
theorem vX0_laysRound_4 (s : MS) (t : Nat → Int → Int) (a1 : Int) (a2 : Int) (hp : (0 ≤ a1 ∧ a1 < a2 ∧ a2 ≤ 10000) ∧ ∀ i : Int, a1 ≤ i → i < a2 → 0 ≤ (s.2 17) i ∧ (s.2 17) i < 10000) (x1 : Int) (x2 : Int) (x3 : Int) (x4 : Int) (f14 : Int → Int) (f15 : Int → Int) (f16 : Int → Int) (hI : (x1 = a1 ∧ x2 = a2) ∧ (a1 ≤ x4 ∧ x4 ≤ a2) ∧ (f14 = s.2 14 ∧ f15 = s.2 15 ∧ f16 = s.2 16) ∧ lwP (s.2 17) a1 a2 x4 x3) (c_1 : ¬ x2 ≤ x4) (o_2 : (0 ≤ x4 ∧ x4 < 10000)) : (x1 = a1 ∧ x2 = a2) ∧ (a1 ≤ (i32 (x4 + 1)) ∧ (i32 (x4 + 1)) ≤ a2) ∧ (f14 = s.2 14 ∧ f15 = s.2 15 ∧ f16 = s.2 16) ∧ lwP (s.2 17) a1 a2 (i32 (x4 + 1)) (if x3 ≤ (s.2 17 x4) then x3 else (s.2 17 x4)) := by
  obtain ⟨hp, hr⟩ := hp
  (try have hr4 := hr x4 (by omega) (by omega))
  (try have hr1 := hr a1 (by omega) (by omega))
  (try unfold lex3)
  (try simp only [bI_0, bI_n, Classical.not_not] at *)
  (try simp (disch := omega) only [i32_id] at *)
  first | done | omega | ((repeat' (with_reducible apply And.intro)) <;> first | assumption | rfl | omega | (exact ⟨x3, hI.2.2.1, (show x4 = a2 by omega) ▸ hI.2.2.2⟩) | (exact hI.2.2.1.1) | (exact hI.2.2.1.2.1) | (exact hI.2.2.1.2.2) | (have e9 : x4 = a2 := by omega; have h9 := hI.2.2.2; rw [e9] at h9; exact h9) | (exact lwP_s hI.2.2.2 (by omega) (by omega) rfl) | (have h9 := hI.2.2.2; have e9 : x4 = a2 := by omega; rw [e9] at h9; exact ⟨x3, hI.2.2.1, h9⟩) | (exact hI.2.2.1) | (exact lrP_s hI.2.2.2 (by omega) (by omega)) | (rw [hI.2.2.1.1, hI.2.2.1.2.1, hI.2.2.1.2.2, hI.1.1]; exact lrP_0) | (exact ⟨⟨a1, ⟨by omega, by omega⟩, rfl⟩, fun i i0 i1 => by omega⟩) | grind [upI])
theorem vX0_laysRound_5 (s : MS) (t : Nat → Int → Int) (a1 : Int) (a2 : Int) (hp : (0 ≤ a1 ∧ a1 < a2 ∧ a2 ≤ 10000) ∧ ∀ i : Int, a1 ≤ i → i < a2 → 0 ≤ (s.2 17) i ∧ (s.2 17) i < 10000) (x1 : Int) (x2 : Int) (x3 : Int) (x4 : Int) (f14 : Int → Int) (f15 : Int → Int) (f16 : Int → Int) (hI : (x1 = a1 ∧ x2 = a2) ∧ (a1 ≤ x4 ∧ x4 ≤ a2) ∧ (f14 = s.2 14 ∧ f15 = s.2 15 ∧ f16 = s.2 16) ∧ lwP (s.2 17) a1 a2 x4 x3) (c_1 : ¬ x2 ≤ x4) (o_2 : (0 ≤ x4 ∧ x4 < 10000)) : lex3 0 1 ((a2 - (i32 (x4 + 1))).toNat) 0 1 ((a2 - x4).toNat) := by
  obtain ⟨hp, hr⟩ := hp
  (try have hr4 := hr x4 (by omega) (by omega))
  (try have hr1 := hr a1 (by omega) (by omega))
  (try unfold lex3)
  (try simp only [bI_0, bI_n, Classical.not_not] at *)
  (try simp (disch := omega) only [i32_id] at *)
  first | done | omega | ((repeat' (with_reducible apply And.intro)) <;> first | assumption | rfl | omega | (exact ⟨x3, hI.2.2.1, (show x4 = a2 by omega) ▸ hI.2.2.2⟩) | (exact hI.2.2.1.1) | (exact hI.2.2.1.2.1) | (exact hI.2.2.1.2.2) | (have e9 : x4 = a2 := by omega; have h9 := hI.2.2.2; rw [e9] at h9; exact h9) | (exact lwP_s hI.2.2.2 (by omega) (by omega) rfl) | (have h9 := hI.2.2.2; have e9 : x4 = a2 := by omega; rw [e9] at h9; exact ⟨x3, hI.2.2.1, h9⟩) | (exact hI.2.2.1) | (exact lrP_s hI.2.2.2 (by omega) (by omega)) | (rw [hI.2.2.1.1, hI.2.2.1.2.1, hI.2.2.1.2.2, hI.1.1]; exact lrP_0) | (exact ⟨⟨a1, ⟨by omega, by omega⟩, rfl⟩, fun i i0 i1 => by omega⟩) | grind [upI])
theorem vX0_laysRound_6 (s : MS) (t : Nat → Int → Int) (a1 : Int) (a2 : Int) (hp : (0 ≤ a1 ∧ a1 < a2 ∧ a2 ≤ 10000) ∧ ∀ i : Int, a1 ≤ i → i < a2 → 0 ≤ (s.2 17) i ∧ (s.2 17) i < 10000) (x1 : Int) (x2 : Int) (x3 : Int) (x4 : Int) (f14 : Int → Int) (f15 : Int → Int) (f16 : Int → Int) (hI : (x1 = a1 ∧ x2 = a2) ∧ (a1 ≤ x4 ∧ x4 ≤ a2) ∧ lwP (s.2 17) a1 a2 a2 x3 ∧ lrP (s.2 17) a1 a2 x4 x3 (s.2 14) (s.2 15) (s.2 16) f14 f15 f16) (c_1 : x2 ≤ x4) : lrQ (s.2 17) a1 a2 (s.2 14) (s.2 15) (s.2 16) f14 f15 f16 := by
  obtain ⟨hp, hr⟩ := hp
  (try have hr4 := hr x4 (by omega) (by omega))
  (try have hr1 := hr a1 (by omega) (by omega))
  (try unfold lex3)
  (try simp only [bI_0, bI_n, Classical.not_not] at *)
  (try simp (disch := omega) only [i32_id] at *)
  first | done | omega | ((repeat' (with_reducible apply And.intro)) <;> first | assumption | rfl | omega | (exact ⟨x3, hI.2.2.1, (show x4 = a2 by omega) ▸ hI.2.2.2⟩) | (exact hI.2.2.1.1) | (exact hI.2.2.1.2.1) | (exact hI.2.2.1.2.2) | (have e9 : x4 = a2 := by omega; have h9 := hI.2.2.2; rw [e9] at h9; exact h9) | (exact lwP_s hI.2.2.2 (by omega) (by omega) rfl) | (have h9 := hI.2.2.2; have e9 : x4 = a2 := by omega; rw [e9] at h9; exact ⟨x3, hI.2.2.1, h9⟩) | (exact hI.2.2.1) | (exact lrP_s hI.2.2.2 (by omega) (by omega)) | (rw [hI.2.2.1.1, hI.2.2.1.2.1, hI.2.2.1.2.2, hI.1.1]; exact lrP_0) | (exact ⟨⟨a1, ⟨by omega, by omega⟩, rfl⟩, fun i i0 i1 => by omega⟩) | grind [upI])
theorem vX0_laysRound_7 (s : MS) (t : Nat → Int → Int) (a1 : Int) (a2 : Int) (hp : (0 ≤ a1 ∧ a1 < a2 ∧ a2 ≤ 10000) ∧ ∀ i : Int, a1 ≤ i → i < a2 → 0 ≤ (s.2 17) i ∧ (s.2 17) i < 10000) (x1 : Int) (x2 : Int) (x3 : Int) (x4 : Int) (f14 : Int → Int) (f15 : Int → Int) (f16 : Int → Int) (hI : (x1 = a1 ∧ x2 = a2) ∧ (a1 ≤ x4 ∧ x4 ≤ a2) ∧ lwP (s.2 17) a1 a2 a2 x3 ∧ lrP (s.2 17) a1 a2 x4 x3 (s.2 14) (s.2 15) (s.2 16) f14 f15 f16) (c_1 : ¬ x2 ≤ x4) : (0 ≤ x4 ∧ x4 < 10000) := by
  obtain ⟨hp, hr⟩ := hp
  (try have hr4 := hr x4 (by omega) (by omega))
  (try have hr1 := hr a1 (by omega) (by omega))
  (try unfold lex3)
  (try simp only [bI_0, bI_n, Classical.not_not] at *)
  (try simp (disch := omega) only [i32_id] at *)
  first | done | omega | ((repeat' (with_reducible apply And.intro)) <;> first | assumption | rfl | omega | (exact ⟨x3, hI.2.2.1, (show x4 = a2 by omega) ▸ hI.2.2.2⟩) | (exact hI.2.2.1.1) | (exact hI.2.2.1.2.1) | (exact hI.2.2.1.2.2) | (have e9 : x4 = a2 := by omega; have h9 := hI.2.2.2; rw [e9] at h9; exact h9) | (exact lwP_s hI.2.2.2 (by omega) (by omega) rfl) | (have h9 := hI.2.2.2; have e9 : x4 = a2 := by omega; rw [e9] at h9; exact ⟨x3, hI.2.2.1, h9⟩) | (exact hI.2.2.1) | (exact lrP_s hI.2.2.2 (by omega) (by omega)) | (rw [hI.2.2.1.1, hI.2.2.1.2.1, hI.2.2.1.2.2, hI.1.1]; exact lrP_0) | (exact ⟨⟨a1, ⟨by omega, by omega⟩, rfl⟩, fun i i0 i1 => by omega⟩) | grind [upI])
theorem vX0_laysRound_8 (s : MS) (t : Nat → Int → Int) (a1 : Int) (a2 : Int) (hp : (0 ≤ a1 ∧ a1 < a2 ∧ a2 ≤ 10000) ∧ ∀ i : Int, a1 ≤ i → i < a2 → 0 ≤ (s.2 17) i ∧ (s.2 17) i < 10000) (x1 : Int) (x2 : Int) (x3 : Int) (x4 : Int) (f14 : Int → Int) (f15 : Int → Int) (f16 : Int → Int) (hI : (x1 = a1 ∧ x2 = a2) ∧ (a1 ≤ x4 ∧ x4 ≤ a2) ∧ lwP (s.2 17) a1 a2 a2 x3 ∧ lrP (s.2 17) a1 a2 x4 x3 (s.2 14) (s.2 15) (s.2 16) f14 f15 f16) (c_1 : ¬ x2 ≤ x4) (o_2 : (0 ≤ x4 ∧ x4 < 10000)) : (0 ≤ (s.2 17 x4) ∧ (s.2 17 x4) < 10000) := by
  obtain ⟨hp, hr⟩ := hp
  (try have hr4 := hr x4 (by omega) (by omega))
  (try have hr1 := hr a1 (by omega) (by omega))
  (try unfold lex3)
  (try simp only [bI_0, bI_n, Classical.not_not] at *)
  (try simp (disch := omega) only [i32_id] at *)
  first | done | omega | ((repeat' (with_reducible apply And.intro)) <;> first | assumption | rfl | omega | (exact ⟨x3, hI.2.2.1, (show x4 = a2 by omega) ▸ hI.2.2.2⟩) | (exact hI.2.2.1.1) | (exact hI.2.2.1.2.1) | (exact hI.2.2.1.2.2) | (have e9 : x4 = a2 := by omega; have h9 := hI.2.2.2; rw [e9] at h9; exact h9) | (exact lwP_s hI.2.2.2 (by omega) (by omega) rfl) | (have h9 := hI.2.2.2; have e9 : x4 = a2 := by omega; rw [e9] at h9; exact ⟨x3, hI.2.2.1, h9⟩) | (exact hI.2.2.1) | (exact lrP_s hI.2.2.2 (by omega) (by omega)) | (rw [hI.2.2.1.1, hI.2.2.1.2.1, hI.2.2.1.2.2, hI.1.1]; exact lrP_0) | (exact ⟨⟨a1, ⟨by omega, by omega⟩, rfl⟩, fun i i0 i1 => by omega⟩) | grind [upI])
theorem vX0_laysRound_9 (s : MS) (t : Nat → Int → Int) (a1 : Int) (a2 : Int) (hp : (0 ≤ a1 ∧ a1 < a2 ∧ a2 ≤ 10000) ∧ ∀ i : Int, a1 ≤ i → i < a2 → 0 ≤ (s.2 17) i ∧ (s.2 17) i < 10000) (x1 : Int) (x2 : Int) (x3 : Int) (x4 : Int) (f14 : Int → Int) (f15 : Int → Int) (f16 : Int → Int) (hI : (x1 = a1 ∧ x2 = a2) ∧ (a1 ≤ x4 ∧ x4 ≤ a2) ∧ lwP (s.2 17) a1 a2 a2 x3 ∧ lrP (s.2 17) a1 a2 x4 x3 (s.2 14) (s.2 15) (s.2 16) f14 f15 f16) (c_1 : ¬ x2 ≤ x4) (o_2 : (0 ≤ x4 ∧ x4 < 10000)) (o_3 : (0 ≤ (s.2 17 x4) ∧ (s.2 17 x4) < 10000)) : (x1 = a1 ∧ x2 = a2) ∧ (a1 ≤ (i32 (x4 + 1)) ∧ (i32 (x4 + 1)) ≤ a2) ∧ lwP (s.2 17) a1 a2 a2 x3 ∧ lrP (s.2 17) a1 a2 (i32 (x4 + 1)) x3 (s.2 14) (s.2 15) (s.2 16) (upI f14 (s.2 17 x4) 0) (upI f15 (s.2 17 x4) x3) (upI f16 (s.2 17 x4) (i32 (x2 - x1))) := by
  obtain ⟨hp, hr⟩ := hp
  (try have hr4 := hr x4 (by omega) (by omega))
  (try have hr1 := hr a1 (by omega) (by omega))
  (try unfold lex3)
  (try simp only [bI_0, bI_n, Classical.not_not] at *)
  (try simp (disch := omega) only [i32_id] at *)
  first | done | omega | ((repeat' (with_reducible apply And.intro)) <;> first | assumption | rfl | omega | (exact ⟨x3, hI.2.2.1, (show x4 = a2 by omega) ▸ hI.2.2.2⟩) | (exact hI.2.2.1.1) | (exact hI.2.2.1.2.1) | (exact hI.2.2.1.2.2) | (have e9 : x4 = a2 := by omega; have h9 := hI.2.2.2; rw [e9] at h9; exact h9) | (exact lwP_s hI.2.2.2 (by omega) (by omega) rfl) | (have h9 := hI.2.2.2; have e9 : x4 = a2 := by omega; rw [e9] at h9; exact ⟨x3, hI.2.2.1, h9⟩) | (exact hI.2.2.1) | (exact lrP_s hI.2.2.2 (by omega) (by omega)) | (rw [hI.2.2.1.1, hI.2.2.1.2.1, hI.2.2.1.2.2, hI.1.1]; exact lrP_0) | (exact ⟨⟨a1, ⟨by omega, by omega⟩, rfl⟩, fun i i0 i1 => by omega⟩) | grind [upI])
theorem vX0_laysRound_10 (s : MS) (t : Nat → Int → Int) (a1 : Int) (a2 : Int) (hp : (0 ≤ a1 ∧ a1 < a2 ∧ a2 ≤ 10000) ∧ ∀ i : Int, a1 ≤ i → i < a2 → 0 ≤ (s.2 17) i ∧ (s.2 17) i < 10000) (x1 : Int) (x2 : Int) (x3 : Int) (x4 : Int) (f14 : Int → Int) (f15 : Int → Int) (f16 : Int → Int) (hI : (x1 = a1 ∧ x2 = a2) ∧ (a1 ≤ x4 ∧ x4 ≤ a2) ∧ lwP (s.2 17) a1 a2 a2 x3 ∧ lrP (s.2 17) a1 a2 x4 x3 (s.2 14) (s.2 15) (s.2 16) f14 f15 f16) (c_1 : ¬ x2 ≤ x4) (o_2 : (0 ≤ x4 ∧ x4 < 10000)) (o_3 : (0 ≤ (s.2 17 x4) ∧ (s.2 17 x4) < 10000)) : lex3 0 0 ((a2 - (i32 (x4 + 1))).toNat) 0 0 ((a2 - x4).toNat) := by
  obtain ⟨hp, hr⟩ := hp
  (try have hr4 := hr x4 (by omega) (by omega))
  (try have hr1 := hr a1 (by omega) (by omega))
  (try unfold lex3)
  (try simp only [bI_0, bI_n, Classical.not_not] at *)
  (try simp (disch := omega) only [i32_id] at *)
  first | done | omega | ((repeat' (with_reducible apply And.intro)) <;> first | assumption | rfl | omega | (exact ⟨x3, hI.2.2.1, (show x4 = a2 by omega) ▸ hI.2.2.2⟩) | (exact hI.2.2.1.1) | (exact hI.2.2.1.2.1) | (exact hI.2.2.1.2.2) | (have e9 : x4 = a2 := by omega; have h9 := hI.2.2.2; rw [e9] at h9; exact h9) | (exact lwP_s hI.2.2.2 (by omega) (by omega) rfl) | (have h9 := hI.2.2.2; have e9 : x4 = a2 := by omega; rw [e9] at h9; exact ⟨x3, hI.2.2.1, h9⟩) | (exact hI.2.2.1) | (exact lrP_s hI.2.2.2 (by omega) (by omega)) | (rw [hI.2.2.1.1, hI.2.2.1.2.1, hI.2.2.1.2.2, hI.1.1]; exact lrP_0) | (exact ⟨⟨a1, ⟨by omega, by omega⟩, rfl⟩, fun i i0 i1 => by omega⟩) | grind [upI])
theorem vX0_laysRound_11 (s : MS) (t : Nat → Int → Int) (a1 : Int) (a2 : Int) (hp : (0 ≤ a1 ∧ a1 < a2 ∧ a2 ≤ 10000) ∧ ∀ i : Int, a1 ≤ i → i < a2 → 0 ≤ (s.2 17) i ∧ (s.2 17) i < 10000) : (0 ≤ a1 ∧ a1 < 10000) := by
  obtain ⟨hp, hr⟩ := hp
  (try have hr4 := hr x4 (by omega) (by omega))
  (try have hr1 := hr a1 (by omega) (by omega))
  (try unfold lex3)
  (try simp only [bI_0, bI_n, Classical.not_not] at *)
  (try simp (disch := omega) only [i32_id] at *)
  first | done | omega | ((repeat' (with_reducible apply And.intro)) <;> first | assumption | rfl | omega | (exact ⟨x3, hI.2.2.1, (show x4 = a2 by omega) ▸ hI.2.2.2⟩) | (exact hI.2.2.1.1) | (exact hI.2.2.1.2.1) | (exact hI.2.2.1.2.2) | (have e9 : x4 = a2 := by omega; have h9 := hI.2.2.2; rw [e9] at h9; exact h9) | (exact lwP_s hI.2.2.2 (by omega) (by omega) rfl) | (have h9 := hI.2.2.2; have e9 : x4 = a2 := by omega; rw [e9] at h9; exact ⟨x3, hI.2.2.1, h9⟩) | (exact hI.2.2.1) | (exact lrP_s hI.2.2.2 (by omega) (by omega)) | (rw [hI.2.2.1.1, hI.2.2.1.2.1, hI.2.2.1.2.2, hI.1.1]; exact lrP_0) | (exact ⟨⟨a1, ⟨by omega, by omega⟩, rfl⟩, fun i i0 i1 => by omega⟩) | grind [upI])
theorem vX0_laysRound_12 (s : MS) (t : Nat → Int → Int) (a1 : Int) (a2 : Int) (hp : (0 ≤ a1 ∧ a1 < a2 ∧ a2 ≤ 10000) ∧ ∀ i : Int, a1 ≤ i → i < a2 → 0 ≤ (s.2 17) i ∧ (s.2 17) i < 10000) (o_1 : (0 ≤ a1 ∧ a1 < 10000)) : (a1 = a1 ∧ a2 = a2) ∧ (a1 ≤ a1 ∧ a1 ≤ a2) ∧ ((s.2 14) = s.2 14 ∧ (s.2 15) = s.2 15 ∧ (s.2 16) = s.2 16) ∧ lwP (s.2 17) a1 a2 a1 (s.2 17 a1) := by
  obtain ⟨hp, hr⟩ := hp
  (try have hr4 := hr x4 (by omega) (by omega))
  (try have hr1 := hr a1 (by omega) (by omega))
  (try unfold lex3)
  (try simp only [bI_0, bI_n, Classical.not_not] at *)
  (try simp (disch := omega) only [i32_id] at *)
  first | done | omega | ((repeat' (with_reducible apply And.intro)) <;> first | assumption | rfl | omega | (exact ⟨x3, hI.2.2.1, (show x4 = a2 by omega) ▸ hI.2.2.2⟩) | (exact hI.2.2.1.1) | (exact hI.2.2.1.2.1) | (exact hI.2.2.1.2.2) | (have e9 : x4 = a2 := by omega; have h9 := hI.2.2.2; rw [e9] at h9; exact h9) | (exact lwP_s hI.2.2.2 (by omega) (by omega) rfl) | (have h9 := hI.2.2.2; have e9 : x4 = a2 := by omega; rw [e9] at h9; exact ⟨x3, hI.2.2.1, h9⟩) | (exact hI.2.2.1) | (exact lrP_s hI.2.2.2 (by omega) (by omega)) | (rw [hI.2.2.1.1, hI.2.2.1.2.1, hI.2.2.1.2.2, hI.1.1]; exact lrP_0) | (exact ⟨⟨a1, ⟨by omega, by omega⟩, rfl⟩, fun i i0 i1 => by omega⟩) | grind [upI])
theorem allX0_laysRound (b : AH) (s : MS) (t : Nat → Int → Int) (a1 : Int) (a2 : Int) (hp : (0 ≤ a1 ∧ a1 < a2 ∧ a2 ≤ 10000) ∧ ∀ i : Int, a1 ≤ i → i < a2 → 0 ≤ (s.2 17) i ∧ (s.2 17) i < 10000) (hT : XTs b s t) : ∀ m1 m2 m3 : Nat, (∀ (x1 : Int) (x2 : Int) (x3 : Int) (x4 : Int) (f14 : Int → Int) (f15 : Int → Int) (f16 : Int → Int), m1 = 0 → m2 = 1 → m3 = ((a2 - x4).toNat) → ((x1 = a1 ∧ x2 = a2) ∧ (a1 ≤ x4 ∧ x4 ≤ a2) ∧ (f14 = s.2 14 ∧ f15 = s.2 15 ∧ f16 = s.2 16) ∧ lwP (s.2 17) a1 a2 x4 x3) → HX0_laysRound_10 (QX0_laysRound s t a1 a2) b s t x1 x2 x3 x4 f14 f15 f16) ∧ (∀ (x1 : Int) (x2 : Int) (x3 : Int) (x4 : Int) (f14 : Int → Int) (f15 : Int → Int) (f16 : Int → Int), m1 = 0 → m2 = 0 → m3 = ((a2 - x4).toNat) → ((x1 = a1 ∧ x2 = a2) ∧ (a1 ≤ x4 ∧ x4 ≤ a2) ∧ lwP (s.2 17) a1 a2 a2 x3 ∧ lrP (s.2 17) a1 a2 x4 x3 (s.2 14) (s.2 15) (s.2 16) f14 f15 f16) → HX0_laysRound_37 (QX0_laysRound s t a1 a2) b s t x1 x2 x3 x4 f14 f15 f16) := by
  refine lex3_ind ?_
  intro m1 m2 m3 ih
  refine ⟨?_, ?_⟩
  · rintro x1 x2 x3 x4 f14 f15 f16 rfl rfl rfl hI
    refine bX0_laysRound_10 b s t x1 x2 x3 x4 f14 f15 f16 hT ?_
    refine ⟨fun c_1 => ?_, fun c_1 => ?_⟩
    · exact (ih _ _ _ (vX0_laysRound_2 s t a1 a2 hp x1 x2 x3 x4 f14 f15 f16 hI c_1)).2 x1 x2 x3 x1 f14 f15 f16 rfl rfl rfl (vX0_laysRound_1 s t a1 a2 hp x1 x2 x3 x4 f14 f15 f16 hI c_1)
    · have o_2 : (0 ≤ x4 ∧ x4 < 10000) := (vX0_laysRound_3 s t a1 a2 hp x1 x2 x3 x4 f14 f15 f16 hI c_1)
      refine ⟨o_2, ?_⟩
      exact (ih _ _ _ (vX0_laysRound_5 s t a1 a2 hp x1 x2 x3 x4 f14 f15 f16 hI c_1 o_2)).1 x1 x2 (if x3 ≤ (s.2 17 x4) then x3 else (s.2 17 x4)) (i32 (x4 + 1)) f14 f15 f16 rfl rfl rfl (vX0_laysRound_4 s t a1 a2 hp x1 x2 x3 x4 f14 f15 f16 hI c_1 o_2)
  · rintro x1 x2 x3 x4 f14 f15 f16 rfl rfl rfl hI
    refine bX0_laysRound_37 b s t x1 x2 x3 x4 f14 f15 f16 hT ?_
    refine ⟨fun c_1 => ?_, fun c_1 => ?_⟩
    · exact ⟨f14, f15, f16, rfl, rfl, (vX0_laysRound_6 s t a1 a2 hp x1 x2 x3 x4 f14 f15 f16 hI c_1)⟩
    · have o_2 : (0 ≤ x4 ∧ x4 < 10000) := (vX0_laysRound_7 s t a1 a2 hp x1 x2 x3 x4 f14 f15 f16 hI c_1)
      refine ⟨o_2, ?_⟩
      have o_3 : (0 ≤ (s.2 17 x4) ∧ (s.2 17 x4) < 10000) := (vX0_laysRound_8 s t a1 a2 hp x1 x2 x3 x4 f14 f15 f16 hI c_1 o_2)
      refine ⟨o_3, ?_⟩
      exact (ih _ _ _ (vX0_laysRound_10 s t a1 a2 hp x1 x2 x3 x4 f14 f15 f16 hI c_1 o_2 o_3)).2 x1 x2 x3 (i32 (x4 + 1)) (upI f14 (s.2 17 x4) 0) (upI f15 (s.2 17 x4) x3) (upI f16 (s.2 17 x4) (i32 (x2 - x1))) rfl rfl rfl (vX0_laysRound_9 s t a1 a2 hp x1 x2 x3 x4 f14 f15 f16 hI c_1 o_2 o_3)
theorem ctX0_laysRound (b : AH) (s : MS) (t : Nat → Int → Int) (a1 : Int) (a2 : Int) (hT : XTs b s t) (hp : (0 ≤ a1 ∧ a1 < a2 ∧ a2 ≤ 10000) ∧ ∀ i : Int, a1 ≤ i → i < a2 → 0 ≤ (s.2 17) i ∧ (s.2 17) i < 10000) : XC mX0_laysRound 2 b s [vI a1, vI a2] (QX0_laysRound s t a1 a2) := by
  refine XC.of (by decide) rfl (Nat.le_of_ble_eq_true rfl) (JW.xsteq (s2 := sA (sA (sA s 14 (s.2 14)) 15 (s.2 15)) 16 (s.2 16)) (by simp only [sA_id, sS_id]) ?_)
  refine bX0_laysRound_0 b s t a1 a2 (s.2 14) (s.2 15) (s.2 16) hT ?_
  have o_1 : (0 ≤ a1 ∧ a1 < 10000) := (vX0_laysRound_11 s t a1 a2 hp)
  refine ⟨o_1, ?_⟩
  exact (allX0_laysRound b s t a1 a2 hp hT _ _ _).1 a1 a2 (s.2 17 a1) a1 (s.2 14) (s.2 15) (s.2 16) rfl rfl rfl (vX0_laysRound_12 s t a1 a2 hp o_1)
