/-! contracts of the reference: isByte next -/
set_option maxRecDepth 100000
def HX3_isByte_0 (Q : Option AV → MS → Prop) (b : AH) (s : MS) (x1 : Int) (x2 : Int) (x3 : Int) : Prop := MW mX3_isByte 1 Q b 0 [(0, vR 351), (1, vI x1), (2, vI x2), (3, vI x3)] [] s
theorem bX3_isByte_0 {Q : Option AV → MS → Prop} (b : AH) (s : MS) (x1 : Int) (x2 : Int) (x3 : Int) (K : ((s.1 6) ≤ x1 → Q (some (vI 0)) s) ∧ (¬ (s.1 6) ≤ x1 → (0 ≤ x1 ∧ x1 < 800) ∧ (((s.2 4 x1) < x2 → Q (some (vI 0)) s) ∧ (¬ (s.2 4 x1) < x2 → (x3 < (s.2 4 x1) → Q (some (vI 0)) s) ∧ (¬ x3 < (s.2 4 x1) → Q (some (vI 1)) s))))) : HX3_isByte_0 Q b s x1 x2 x3 := by
  refine JW.iload_n dX3_isByte_0 rfl ?_
  refine JW.aload_n dX3_isByte_1 rfl ?_
  refine JW.mget (v := vI (s.1 6)) dX3_isByte_2 fX3_94 rfl ?_
  refine JW.icmp_ge (tgt := 32) dX3_isByte_5 rfl (fun c_1 => ?_) (fun c_1 => ?_)
  · have K := K.1 c_1
    refine JW.iconst dX3_isByte_32 rfl ?_
    exact JW.zreturn dX3_isByte_33 rfl (Or.inl rfl) ⟨_, rfl, K⟩
  · have K := K.2 c_1
    refine JW.aload_n dX3_isByte_8 rfl ?_
    refine JW.mget (v := vR 356) dX3_isByte_9 fX3_23 rfl ?_
    refine JW.iload_n dX3_isByte_12 rfl ?_
    obtain ⟨o_2, K⟩ := K
    refine JW.mbld 4 (x := (s.2 4 x1)) dX3_isByte_13 (Nat.le_of_ble_eq_true rfl) rfl o_2.1 o_2.2 rfl ?_
    refine JW.iload_n dX3_isByte_14 rfl ?_
    refine JW.icmp_lt (tgt := 32) dX3_isByte_15 rfl (fun c_3 => ?_) (fun c_3 => ?_)
    · have K := K.1 c_3
      refine JW.iconst dX3_isByte_32 rfl ?_
      exact JW.zreturn dX3_isByte_33 rfl (Or.inl rfl) ⟨_, rfl, K⟩
    · have K := K.2 c_3
      refine JW.aload_n dX3_isByte_18 rfl ?_
      refine JW.mget (v := vR 356) dX3_isByte_19 fX3_23 rfl ?_
      refine JW.iload_n dX3_isByte_22 rfl ?_
      refine JW.mbld 4 (x := (s.2 4 x1)) dX3_isByte_23 (Nat.le_of_ble_eq_true rfl) rfl o_2.1 o_2.2 rfl ?_
      refine JW.iload_n dX3_isByte_24 rfl ?_
      refine JW.icmp_gt (tgt := 32) dX3_isByte_25 rfl (fun c_4 => ?_) (fun c_4 => ?_)
      · have K := K.1 c_4
        refine JW.iconst dX3_isByte_32 rfl ?_
        exact JW.zreturn dX3_isByte_33 rfl (Or.inl rfl) ⟨_, rfl, K⟩
      · have K := K.2 c_4
        refine JW.iconst dX3_isByte_28 rfl ?_
        refine JW.goto (tgt := 33) dX3_isByte_29 rfl ?_
        exact JW.zreturn dX3_isByte_33 rfl (Or.inr rfl) ⟨_, rfl, K⟩
def QX3_isByte (s : MS) (a1 : Int) (a2 : Int) (a3 : Int) : Option AV → MS → Prop := fun v s' => v = some (vI (bI (a1 < (s.1 6) ∧ a2 ≤ (s.2 4) a1 ∧ (s.2 4) a1 ≤ a3))) ∧ s' = s
theorem vX3_isByte_1 (s : MS) (a1 : Int) (a2 : Int) (a3 : Int) (hp : 0 ≤ a1 ∧ (s.1 6) ≤ 800) (c_1 : (s.1 6) ≤ a1) : 0 = (bI (a1 < (s.1 6) ∧ a2 ≤ (s.2 4) a1 ∧ (s.2 4) a1 ≤ a3)) := by
  (try unfold lex3)
  (try simp only [bI_0, bI_n, Classical.not_not] at *)
  (try simp (disch := omega) only [i32_id] at *)
  first | done | omega | ((repeat' (with_reducible apply And.intro)) <;> first | assumption | rfl | omega | (rw [bI_t (by omega)]) | (rw [bI_f (by omega)]) | grind [upI])
theorem vX3_isByte_2 (s : MS) (a1 : Int) (a2 : Int) (a3 : Int) (hp : 0 ≤ a1 ∧ (s.1 6) ≤ 800) (c_1 : ¬ (s.1 6) ≤ a1) : (0 ≤ a1 ∧ a1 < 800) := by
  (try unfold lex3)
  (try simp only [bI_0, bI_n, Classical.not_not] at *)
  (try simp (disch := omega) only [i32_id] at *)
  first | done | omega | ((repeat' (with_reducible apply And.intro)) <;> first | assumption | rfl | omega | (rw [bI_t (by omega)]) | (rw [bI_f (by omega)]) | grind [upI])
theorem vX3_isByte_3 (s : MS) (a1 : Int) (a2 : Int) (a3 : Int) (hp : 0 ≤ a1 ∧ (s.1 6) ≤ 800) (c_1 : ¬ (s.1 6) ≤ a1) (o_2 : (0 ≤ a1 ∧ a1 < 800)) (c_3 : (s.2 4 a1) < a2) : 0 = (bI (a1 < (s.1 6) ∧ a2 ≤ (s.2 4) a1 ∧ (s.2 4) a1 ≤ a3)) := by
  (try unfold lex3)
  (try simp only [bI_0, bI_n, Classical.not_not] at *)
  (try simp (disch := omega) only [i32_id] at *)
  first | done | omega | ((repeat' (with_reducible apply And.intro)) <;> first | assumption | rfl | omega | (rw [bI_t (by omega)]) | (rw [bI_f (by omega)]) | grind [upI])
theorem vX3_isByte_4 (s : MS) (a1 : Int) (a2 : Int) (a3 : Int) (hp : 0 ≤ a1 ∧ (s.1 6) ≤ 800) (c_1 : ¬ (s.1 6) ≤ a1) (o_2 : (0 ≤ a1 ∧ a1 < 800)) (c_3 : ¬ (s.2 4 a1) < a2) (c_4 : a3 < (s.2 4 a1)) : 0 = (bI (a1 < (s.1 6) ∧ a2 ≤ (s.2 4) a1 ∧ (s.2 4) a1 ≤ a3)) := by
  (try unfold lex3)
  (try simp only [bI_0, bI_n, Classical.not_not] at *)
  (try simp (disch := omega) only [i32_id] at *)
  first | done | omega | ((repeat' (with_reducible apply And.intro)) <;> first | assumption | rfl | omega | (rw [bI_t (by omega)]) | (rw [bI_f (by omega)]) | grind [upI])
theorem vX3_isByte_5 (s : MS) (a1 : Int) (a2 : Int) (a3 : Int) (hp : 0 ≤ a1 ∧ (s.1 6) ≤ 800) (c_1 : ¬ (s.1 6) ≤ a1) (o_2 : (0 ≤ a1 ∧ a1 < 800)) (c_3 : ¬ (s.2 4 a1) < a2) (c_4 : ¬ a3 < (s.2 4 a1)) : 1 = (bI (a1 < (s.1 6) ∧ a2 ≤ (s.2 4) a1 ∧ (s.2 4) a1 ≤ a3)) := by
  (try unfold lex3)
  (try simp only [bI_0, bI_n, Classical.not_not] at *)
  (try simp (disch := omega) only [i32_id] at *)
  first | done | omega | ((repeat' (with_reducible apply And.intro)) <;> first | assumption | rfl | omega | (rw [bI_t (by omega)]) | (rw [bI_f (by omega)]) | grind [upI])
theorem ctX3_isByte (b : AH) (s : MS) (a1 : Int) (a2 : Int) (a3 : Int) (hp : 0 ≤ a1 ∧ (s.1 6) ≤ 800) : MC mX3_isByte 1 b s [vI a1, vI a2, vI a3] (QX3_isByte s a1 a2 a3) := by
  refine MC.of (by decide) rfl (Nat.le_of_ble_eq_true rfl) ?_
  refine bX3_isByte_0 b s a1 a2 a3 ?_
  refine ⟨fun c_1 => ?_, fun c_1 => ?_⟩
  · exact ⟨(rI_c (vX3_isByte_1 s a1 a2 a3 hp c_1)), rfl⟩
  · have o_2 : (0 ≤ a1 ∧ a1 < 800) := (vX3_isByte_2 s a1 a2 a3 hp c_1)
    refine ⟨o_2, ?_⟩
    refine ⟨fun c_3 => ?_, fun c_3 => ?_⟩
    · exact ⟨(rI_c (vX3_isByte_3 s a1 a2 a3 hp c_1 o_2 c_3)), rfl⟩
    · refine ⟨fun c_4 => ?_, fun c_4 => ?_⟩
      · exact ⟨(rI_c (vX3_isByte_4 s a1 a2 a3 hp c_1 o_2 c_3 c_4)), rfl⟩
      · exact ⟨(rI_c (vX3_isByte_5 s a1 a2 a3 hp c_1 o_2 c_3 c_4)), rfl⟩
def HX3_next_0 (Q : Option AV → MS → Prop) (b : AH) (s : MS) (k7 : Int) (k8 : Int) (k9 : Int) (k10 : Int) (k11 : Int) : Prop := MW mX3_next 2 Q b 0 [(0, vR 351)] [] (sS (sS (sS (sS (sS s 7 k7) 8 k8) 9 k9) 10 k10) 11 k11)
def HX3_next_102 (Q : Option AV → MS → Prop) (b : AH) (s : MS) (x1 : Int) (k7 : Int) (k8 : Int) (k9 : Int) (k10 : Int) (k11 : Int) : Prop := MW mX3_next 2 Q b 102 [(0, vR 351), (1, vI x1)] [] (sS (sS (sS (sS (sS s 7 k7) 8 k8) 9 k9) 10 k10) 11 k11)
def HX3_next_208 (Q : Option AV → MS → Prop) (b : AH) (s : MS) (k7 : Int) (k8 : Int) (k9 : Int) (k10 : Int) (k11 : Int) : Prop := MW mX3_next 2 Q b 208 [(0, vR 351)] [] (sS (sS (sS (sS (sS s 7 k7) 8 k8) 9 k9) 10 k10) 11 k11)
theorem bX3_next_0 {Q : Option AV → MS → Prop} (b : AH) (s : MS) (k7 : Int) (k8 : Int) (k9 : Int) (k10 : Int) (k11 : Int) (K : (0 ≤ k7 ∧ (s.1 6) ≤ 800) ∧ ((¬ (bI (k7 < (s.1 6) ∧ (32 : Int) ≤ (s.2 4) k7 ∧ (s.2 4) k7 ≤ (32 : Int))) = 0 → HX3_next_0 Q b s (i32 (k7 + 1)) k8 k9 k10 k11) ∧ ((bI (k7 < (s.1 6) ∧ (32 : Int) ≤ (s.2 4) k7 ∧ (s.2 4) k7 ≤ (32 : Int))) = 0 → ((bI (k7 < (s.1 6) ∧ (10 : Int) ≤ (s.2 4) k7 ∧ (s.2 4) k7 ≤ (10 : Int))) = 0 → (¬ k7 = (s.1 6) → ((bI (k7 < (s.1 6) ∧ (97 : Int) ≤ (s.2 4) k7 ∧ (s.2 4) k7 ≤ (122 : Int))) = 0 → ((bI (k7 < (s.1 6) ∧ (48 : Int) ≤ (s.2 4) k7 ∧ (s.2 4) k7 ≤ (57 : Int))) = 0 → (0 ≤ k7 ∧ k7 < 800) ∧ ((¬ (s.2 4 k7) = 59 → Q none (sS (sS (sS (sS (sS s 7 (i32 (k7 + 1))) 8 4) 9 k7) 10 0) 11 0)) ∧ ((s.2 4 k7) = 59 → Q none (sS (sS (sS (sS (sS s 7 (i32 (k7 + 1))) 8 3) 9 k7) 10 0) 11 0)))) ∧ (¬ (bI (k7 < (s.1 6) ∧ (48 : Int) ≤ (s.2 4) k7 ∧ (s.2 4) k7 ≤ (57 : Int))) = 0 → HX3_next_208 Q b s k7 2 k7 0 0)) ∧ (¬ (bI (k7 < (s.1 6) ∧ (97 : Int) ≤ (s.2 4) k7 ∧ (s.2 4) k7 ≤ (122 : Int))) = 0 → HX3_next_102 Q b s 0 k7 1 k7 0 0)) ∧ (k7 = (s.1 6) → Q none (sS (sS (sS (sS (sS s 7 k7) 8 0) 9 k7) 10 0) 11 0))) ∧ (¬ (bI (k7 < (s.1 6) ∧ (10 : Int) ≤ (s.2 4) k7 ∧ (s.2 4) k7 ≤ (10 : Int))) = 0 → HX3_next_0 Q b s (i32 (k7 + 1)) k8 k9 k10 k11)))) : HX3_next_0 Q b s k7 k8 k9 k10 k11 := by
  refine JW.aload_n dX3_next_0 rfl ?_
  refine JW.aload_n dX3_next_1 rfl ?_
  refine JW.mget (v := vI k7) dX3_next_2 fX3_101 rfl ?_
  refine JW.bipush dX3_next_5 rfl ?_
  refine JW.bipush dX3_next_7 rfl ?_
  obtain ⟨o_1, K⟩ := K
  refine JW.mcall (As := [vI k7, vI 32, vI 32]) dX3_next_9 vX3_isByte rfl q1678 (ctX3_isByte b (sS (sS (sS (sS (sS s 7 k7) 8 k8) 9 k9) 10 k10) 11 k11) k7 32 32 o_1) (Nat.le_of_ble_eq_true rfl) rfl (Nat.le_of_ble_eq_true rfl) ?_
  rintro _ _ ⟨rfl, eq_2⟩
  refine JW.steq (s2 := sS (sS (sS (sS (sS s 7 k7) 8 k8) 9 k9) 10 k10) 11 k11) eq_2 ?_
  refine JW.if_ne (tgt := 30) dX3_next_12 rfl (fun c_3 => ?_) (fun c_3 => ?_)
  · have K := K.1 c_3
    refine JW.aload_n dX3_next_30 rfl ?_
    refine JW.dup dX3_next_31 rfl ?_
    refine JW.mget (v := vI k7) dX3_next_32 fX3_101 rfl ?_
    refine JW.iconst dX3_next_35 rfl ?_
    refine JW.iadd dX3_next_36 ?_
    refine JW.mputI dX3_next_37 (pX3_101 _) rfl ?_
    refine JW.steq (s2 := sS (sS (sS (sS (sS s 7 (i32 (k7 + 1))) 8 k8) 9 k9) 10 k10) 11 k11) (by simp only [sA_A, sS_S, sA_S, sA_lt, sS_lt, Nat.reduceLT, id_eq] <;> rfl) ?_
    refine JW.goto (tgt := 0) dX3_next_40 rfl ?_
    exact JW.pick [0] rfl K
  · have K := K.2 c_3
    refine JW.aload_n dX3_next_15 rfl ?_
    refine JW.aload_n dX3_next_16 rfl ?_
    refine JW.mget (v := vI k7) dX3_next_17 fX3_101 rfl ?_
    refine JW.bipush dX3_next_20 rfl ?_
    refine JW.bipush dX3_next_22 rfl ?_
    refine JW.mcall (As := [vI k7, vI 10, vI 10]) dX3_next_24 vX3_isByte rfl q1678 (ctX3_isByte b (sS (sS (sS (sS (sS s 7 k7) 8 k8) 9 k9) 10 k10) 11 k11) k7 10 10 o_1) (Nat.le_of_ble_eq_true rfl) rfl (Nat.le_of_ble_eq_true rfl) ?_
    rintro _ _ ⟨rfl, eq_4⟩
    refine JW.steq (s2 := sS (sS (sS (sS (sS s 7 k7) 8 k8) 9 k9) 10 k10) 11 k11) eq_4 ?_
    refine JW.if_eq (tgt := 43) dX3_next_27 rfl (fun c_5 => ?_) (fun c_5 => ?_)
    · have K := K.1 c_5
      refine JW.aload_n dX3_next_43 rfl ?_
      refine JW.aload_n dX3_next_44 rfl ?_
      refine JW.mget (v := vI k7) dX3_next_45 fX3_101 rfl ?_
      refine JW.mputI dX3_next_48 (pX3_108 _) rfl ?_
      refine JW.steq (s2 := sS (sS (sS (sS (sS s 7 k7) 8 k8) 9 k7) 10 k10) 11 k11) (by simp only [sA_A, sS_S, sA_S, sA_lt, sS_lt, Nat.reduceLT, id_eq] <;> rfl) ?_
      refine JW.aload_n dX3_next_51 rfl ?_
      refine JW.iconst dX3_next_52 rfl ?_
      refine JW.mputI dX3_next_53 (pX3_111 _) rfl ?_
      refine JW.steq (s2 := sS (sS (sS (sS (sS s 7 k7) 8 k8) 9 k7) 10 0) 11 k11) (by simp only [sA_A, sS_S, sA_S, sA_lt, sS_lt, Nat.reduceLT, id_eq] <;> rfl) ?_
      refine JW.aload_n dX3_next_56 rfl ?_
      refine JW.lconst (x := 0) dX3_next_57 rfl ?_
      refine JW.mputL dX3_next_58 (pX3_114 _) rfl ?_
      refine JW.steq (s2 := sS (sS (sS (sS (sS s 7 k7) 8 k8) 9 k7) 10 0) 11 0) (by simp only [sA_A, sS_S, sA_S, sA_lt, sS_lt, Nat.reduceLT, id_eq] <;> rfl) ?_
      refine JW.aload_n dX3_next_61 rfl ?_
      refine JW.mget (v := vI k7) dX3_next_62 fX3_101 rfl ?_
      refine JW.aload_n dX3_next_65 rfl ?_
      refine JW.mget (v := vI (s.1 6)) dX3_next_66 fX3_94 rfl ?_
      refine JW.icmp_ne (tgt := 80) dX3_next_69 rfl (fun c_6 => ?_) (fun c_6 => ?_)
      · have K := K.1 c_6
        refine JW.aload_n dX3_next_80 rfl ?_
        refine JW.aload_n dX3_next_81 rfl ?_
        refine JW.mget (v := vI k7) dX3_next_82 fX3_101 rfl ?_
        refine JW.bipush dX3_next_85 rfl ?_
        refine JW.bipush dX3_next_87 rfl ?_
        refine JW.mcall (As := [vI k7, vI 97, vI 122]) dX3_next_89 vX3_isByte rfl q1678 (ctX3_isByte b (sS (sS (sS (sS (sS s 7 k7) 8 k8) 9 k7) 10 0) 11 0) k7 97 122 o_1) (Nat.le_of_ble_eq_true rfl) rfl (Nat.le_of_ble_eq_true rfl) ?_
        rintro _ _ ⟨rfl, eq_7⟩
        refine JW.steq (s2 := sS (sS (sS (sS (sS s 7 k7) 8 k8) 9 k7) 10 0) 11 0) eq_7 ?_
        refine JW.if_eq (tgt := 188) dX3_next_92 rfl (fun c_8 => ?_) (fun c_8 => ?_)
        · have K := K.1 c_8
          refine JW.aload_n dX3_next_188 rfl ?_
          refine JW.aload_n dX3_next_189 rfl ?_
          refine JW.mget (v := vI k7) dX3_next_190 fX3_101 rfl ?_
          refine JW.bipush dX3_next_193 rfl ?_
          refine JW.bipush dX3_next_195 rfl ?_
          refine JW.mcall (As := [vI k7, vI 48, vI 57]) dX3_next_197 vX3_isByte rfl q1678 (ctX3_isByte b (sS (sS (sS (sS (sS s 7 k7) 8 k8) 9 k7) 10 0) 11 0) k7 48 57 o_1) (Nat.le_of_ble_eq_true rfl) rfl (Nat.le_of_ble_eq_true rfl) ?_
          rintro _ _ ⟨rfl, eq_9⟩
          refine JW.steq (s2 := sS (sS (sS (sS (sS s 7 k7) 8 k8) 9 k7) 10 0) 11 0) eq_9 ?_
          refine JW.if_eq (tgt := 274) dX3_next_200 rfl (fun c_10 => ?_) (fun c_10 => ?_)
          · have K := K.1 c_10
            refine JW.aload_n dX3_next_274 rfl ?_
            refine JW.aload_n dX3_next_275 rfl ?_
            refine JW.mget (v := vR 356) dX3_next_276 fX3_23 rfl ?_
            refine JW.aload_n dX3_next_279 rfl ?_
            refine JW.mget (v := vI k7) dX3_next_280 fX3_101 rfl ?_
            obtain ⟨o_11, K⟩ := K
            refine JW.mbld 4 (x := (s.2 4 k7)) dX3_next_283 (Nat.le_of_ble_eq_true rfl) rfl o_11.1 o_11.2 rfl ?_
            refine JW.bipush dX3_next_284 rfl ?_
            refine JW.icmp_ne (tgt := 293) dX3_next_286 rfl (fun c_12 => ?_) (fun c_12 => ?_)
            · have K := K.1 c_12
              refine JW.iconst dX3_next_293 rfl ?_
              refine JW.mputI dX3_next_294 (pX3_118 _) rfl ?_
              refine JW.steq (s2 := sS (sS (sS (sS (sS s 7 k7) 8 4) 9 k7) 10 0) 11 0) (by simp only [sA_A, sS_S, sA_S, sA_lt, sS_lt, Nat.reduceLT, id_eq] <;> rfl) ?_
              refine JW.aload_n dX3_next_297 rfl ?_
              refine JW.dup dX3_next_298 rfl ?_
              refine JW.mget (v := vI k7) dX3_next_299 fX3_101 rfl ?_
              refine JW.iconst dX3_next_302 rfl ?_
              refine JW.iadd dX3_next_303 ?_
              refine JW.mputI dX3_next_304 (pX3_101 _) rfl ?_
              refine JW.steq (s2 := sS (sS (sS (sS (sS s 7 (i32 (k7 + 1))) 8 4) 9 k7) 10 0) 11 0) (by simp only [sA_A, sS_S, sA_S, sA_lt, sS_lt, Nat.reduceLT, id_eq] <;> rfl) ?_
              exact JW.vreturn dX3_next_307 rfl ⟨_, rfl, K⟩
            · have K := K.2 c_12
              refine JW.iconst dX3_next_289 rfl ?_
              refine JW.goto (tgt := 294) dX3_next_290 rfl ?_
              refine JW.mputI dX3_next_294 (pX3_118 _) rfl ?_
              refine JW.steq (s2 := sS (sS (sS (sS (sS s 7 k7) 8 3) 9 k7) 10 0) 11 0) (by simp only [sA_A, sS_S, sA_S, sA_lt, sS_lt, Nat.reduceLT, id_eq] <;> rfl) ?_
              refine JW.aload_n dX3_next_297 rfl ?_
              refine JW.dup dX3_next_298 rfl ?_
              refine JW.mget (v := vI k7) dX3_next_299 fX3_101 rfl ?_
              refine JW.iconst dX3_next_302 rfl ?_
              refine JW.iadd dX3_next_303 ?_
              refine JW.mputI dX3_next_304 (pX3_101 _) rfl ?_
              refine JW.steq (s2 := sS (sS (sS (sS (sS s 7 (i32 (k7 + 1))) 8 3) 9 k7) 10 0) 11 0) (by simp only [sA_A, sS_S, sA_S, sA_lt, sS_lt, Nat.reduceLT, id_eq] <;> rfl) ?_
              exact JW.vreturn dX3_next_307 rfl ⟨_, rfl, K⟩
          · have K := K.2 c_10
            refine JW.aload_n dX3_next_203 rfl ?_
            refine JW.iconst dX3_next_204 rfl ?_
            refine JW.mputI dX3_next_205 (pX3_118 _) rfl ?_
            refine JW.steq (s2 := sS (sS (sS (sS (sS s 7 k7) 8 2) 9 k7) 10 0) 11 0) (by simp only [sA_A, sS_S, sA_S, sA_lt, sS_lt, Nat.reduceLT, id_eq] <;> rfl) ?_
            exact JW.pick [0] rfl K
        · have K := K.2 c_8
          refine JW.aload_n dX3_next_95 rfl ?_
          refine JW.iconst dX3_next_96 rfl ?_
          refine JW.mputI dX3_next_97 (pX3_118 _) rfl ?_
          refine JW.steq (s2 := sS (sS (sS (sS (sS s 7 k7) 8 1) 9 k7) 10 0) 11 0) (by simp only [sA_A, sS_S, sA_S, sA_lt, sS_lt, Nat.reduceLT, id_eq] <;> rfl) ?_
          refine JW.iconst dX3_next_100 rfl ?_
          refine JW.istore_n (ls' := [(0, vR 351), (1, vI 0)]) dX3_next_101 (Nat.le_of_ble_eq_true rfl) rfl ?_
          exact JW.pick [0, 1] rfl K
      · have K := K.2 c_6
        refine JW.aload_n dX3_next_72 rfl ?_
        refine JW.iconst dX3_next_73 rfl ?_
        refine JW.mputI dX3_next_74 (pX3_118 _) rfl ?_
        refine JW.steq (s2 := sS (sS (sS (sS (sS s 7 k7) 8 0) 9 k7) 10 0) 11 0) (by simp only [sA_A, sS_S, sA_S, sA_lt, sS_lt, Nat.reduceLT, id_eq] <;> rfl) ?_
        refine JW.goto (tgt := 307) dX3_next_77 rfl ?_
        exact JW.vreturn dX3_next_307 rfl ⟨_, rfl, K⟩
    · have K := K.2 c_5
      refine JW.aload_n dX3_next_30 rfl ?_
      refine JW.dup dX3_next_31 rfl ?_
      refine JW.mget (v := vI k7) dX3_next_32 fX3_101 rfl ?_
      refine JW.iconst dX3_next_35 rfl ?_
      refine JW.iadd dX3_next_36 ?_
      refine JW.mputI dX3_next_37 (pX3_101 _) rfl ?_
      refine JW.steq (s2 := sS (sS (sS (sS (sS s 7 (i32 (k7 + 1))) 8 k8) 9 k9) 10 k10) 11 k11) (by simp only [sA_A, sS_S, sA_S, sA_lt, sS_lt, Nat.reduceLT, id_eq] <;> rfl) ?_
      refine JW.goto (tgt := 0) dX3_next_40 rfl ?_
      exact JW.pick [0] rfl K
theorem bX3_next_102 {Q : Option AV → MS → Prop} (b : AH) (s : MS) (x1 : Int) (k7 : Int) (k8 : Int) (k9 : Int) (k10 : Int) (k11 : Int) (K : (0 ≤ k7 ∧ (s.1 6) ≤ 800) ∧ (((bI (k7 < (s.1 6) ∧ (97 : Int) ≤ (s.2 4) k7 ∧ (s.2 4) k7 ≤ (122 : Int))) = 0 → Q none (sS (sS (sS (sS (sS s 7 k7) 8 k8) 9 k9) 10 k10) 11 k11)) ∧ (¬ (bI (k7 < (s.1 6) ∧ (97 : Int) ≤ (s.2 4) k7 ∧ (s.2 4) k7 ≤ (122 : Int))) = 0 → (x1 ≤ 11 → (0 ≤ k7 ∧ k7 < 800) ∧ ((x1 ≤ 11 → HX3_next_102 Q b s (i32 (x1 + 1)) (i32 (k7 + 1)) k8 k9 k10 (i64 ((i64 ((i64 (27 * k11)) + (s.2 4 k7))) - 96))) ∧ (¬ x1 ≤ 11 → HX3_next_102 Q b s (i32 (x1 + 1)) (i32 (k7 + 1)) k8 k9 k10 (-1)))) ∧ (¬ x1 ≤ 11 → (x1 ≤ 11 → HX3_next_102 Q b s (i32 (x1 + 1)) (i32 (k7 + 1)) k8 k9 k10 (-1)) ∧ (¬ x1 ≤ 11 → HX3_next_102 Q b s (i32 (x1 + 1)) (i32 (k7 + 1)) k8 k9 k10 (-1)))))) : HX3_next_102 Q b s x1 k7 k8 k9 k10 k11 := by
  refine JW.aload_n dX3_next_102 rfl ?_
  refine JW.aload_n dX3_next_103 rfl ?_
  refine JW.mget (v := vI k7) dX3_next_104 fX3_101 rfl ?_
  refine JW.bipush dX3_next_107 rfl ?_
  refine JW.bipush dX3_next_109 rfl ?_
  obtain ⟨o_1, K⟩ := K
  refine JW.mcall (As := [vI k7, vI 97, vI 122]) dX3_next_111 vX3_isByte rfl q1678 (ctX3_isByte b (sS (sS (sS (sS (sS s 7 k7) 8 k8) 9 k9) 10 k10) 11 k11) k7 97 122 o_1) (Nat.le_of_ble_eq_true rfl) rfl (Nat.le_of_ble_eq_true rfl) ?_
  rintro _ _ ⟨rfl, eq_2⟩
  refine JW.steq (s2 := sS (sS (sS (sS (sS s 7 k7) 8 k8) 9 k9) 10 k10) 11 k11) eq_2 ?_
  refine JW.if_eq (tgt := 185) dX3_next_114 rfl (fun c_3 => ?_) (fun c_3 => ?_)
  · have K := K.1 c_3
    refine JW.goto (tgt := 307) dX3_next_185 rfl ?_
    exact JW.vreturn dX3_next_307 rfl ⟨_, rfl, K⟩
  · have K := K.2 c_3
    refine JW.aload_n dX3_next_117 rfl ?_
    refine JW.iload_n dX3_next_118 rfl ?_
    refine JW.bipush dX3_next_119 rfl ?_
    refine JW.icmp_le (tgt := 130) dX3_next_121 rfl (fun c_4 => ?_) (fun c_4 => ?_)
    · have K := K.1 c_4
      refine JW.ldc2 (x := 27) dX3_next_130 q1683 rfl ?_
      refine JW.aload_n dX3_next_133 rfl ?_
      refine JW.mget (v := vL k11) dX3_next_134 fX3_114 rfl ?_
      refine JW.lmul dX3_next_137 ?_
      refine JW.aload_n dX3_next_138 rfl ?_
      refine JW.mget (v := vR 356) dX3_next_139 fX3_23 rfl ?_
      refine JW.aload_n dX3_next_142 rfl ?_
      refine JW.mget (v := vI k7) dX3_next_143 fX3_101 rfl ?_
      obtain ⟨o_5, K⟩ := K
      refine JW.mbld 4 (x := (s.2 4 k7)) dX3_next_146 (Nat.le_of_ble_eq_true rfl) rfl o_5.1 o_5.2 rfl ?_
      refine JW.i2l dX3_next_147 ?_
      refine JW.ladd dX3_next_148 ?_
      refine JW.ldc2 (x := 96) dX3_next_149 q1684 rfl ?_
      refine JW.lsub dX3_next_152 ?_
      refine JW.mputL dX3_next_153 (pX3_114 _) rfl ?_
      refine JW.steq (s2 := sS (sS (sS (sS (sS s 7 k7) 8 k8) 9 k9) 10 k10) 11 (i64 ((i64 ((i64 (27 * k11)) + (s.2 4 k7))) - 96))) (by simp only [sA_A, sS_S, sA_S, sA_lt, sS_lt, Nat.reduceLT, id_eq] <;> rfl) ?_
      refine JW.iload_n dX3_next_156 rfl ?_
      refine JW.bipush dX3_next_157 rfl ?_
      refine JW.icmp_le (tgt := 169) dX3_next_159 rfl (fun c_6 => ?_) (fun c_6 => ?_)
      · have K := K.1 c_6
        refine JW.aload_n dX3_next_169 rfl ?_
        refine JW.dup dX3_next_170 rfl ?_
        refine JW.mget (v := vI k7) dX3_next_171 fX3_101 rfl ?_
        refine JW.iconst dX3_next_174 rfl ?_
        refine JW.iadd dX3_next_175 ?_
        refine JW.mputI dX3_next_176 (pX3_101 _) rfl ?_
        refine JW.steq (s2 := sS (sS (sS (sS (sS s 7 (i32 (k7 + 1))) 8 k8) 9 k9) 10 k10) 11 (i64 ((i64 ((i64 (27 * k11)) + (s.2 4 k7))) - 96))) (by simp only [sA_A, sS_S, sA_S, sA_lt, sS_lt, Nat.reduceLT, id_eq] <;> rfl) ?_
        refine JW.iinc (ls' := [(0, vR 351), (1, vI (i32 (x1 + 1)))]) dX3_next_179 (Nat.le_of_ble_eq_true rfl) rfl rfl ?_
        refine JW.goto (tgt := 102) dX3_next_182 rfl ?_
        exact JW.pick [0, 1] rfl K
      · have K := K.2 c_6
        refine JW.aload_n dX3_next_162 rfl ?_
        refine JW.ldc2 (x := (-1)) dX3_next_163 (by rw [show Int64.ofInt (-1) = -1 from by decide]; exact q1682) rfl ?_
        refine JW.mputL dX3_next_166 (pX3_114 _) rfl ?_
        refine JW.steq (s2 := sS (sS (sS (sS (sS s 7 k7) 8 k8) 9 k9) 10 k10) 11 (-1)) (by simp only [sA_A, sS_S, sA_S, sA_lt, sS_lt, Nat.reduceLT, id_eq] <;> rfl) ?_
        refine JW.aload_n dX3_next_169 rfl ?_
        refine JW.dup dX3_next_170 rfl ?_
        refine JW.mget (v := vI k7) dX3_next_171 fX3_101 rfl ?_
        refine JW.iconst dX3_next_174 rfl ?_
        refine JW.iadd dX3_next_175 ?_
        refine JW.mputI dX3_next_176 (pX3_101 _) rfl ?_
        refine JW.steq (s2 := sS (sS (sS (sS (sS s 7 (i32 (k7 + 1))) 8 k8) 9 k9) 10 k10) 11 (-1)) (by simp only [sA_A, sS_S, sA_S, sA_lt, sS_lt, Nat.reduceLT, id_eq] <;> rfl) ?_
        refine JW.iinc (ls' := [(0, vR 351), (1, vI (i32 (x1 + 1)))]) dX3_next_179 (Nat.le_of_ble_eq_true rfl) rfl rfl ?_
        refine JW.goto (tgt := 102) dX3_next_182 rfl ?_
        exact JW.pick [0, 1] rfl K
    · have K := K.2 c_4
      refine JW.ldc2 (x := (-1)) dX3_next_124 (by rw [show Int64.ofInt (-1) = -1 from by decide]; exact q1682) rfl ?_
      refine JW.goto (tgt := 153) dX3_next_127 rfl ?_
      refine JW.mputL dX3_next_153 (pX3_114 _) rfl ?_
      refine JW.steq (s2 := sS (sS (sS (sS (sS s 7 k7) 8 k8) 9 k9) 10 k10) 11 (-1)) (by simp only [sA_A, sS_S, sA_S, sA_lt, sS_lt, Nat.reduceLT, id_eq] <;> rfl) ?_
      refine JW.iload_n dX3_next_156 rfl ?_
      refine JW.bipush dX3_next_157 rfl ?_
      refine JW.icmp_le (tgt := 169) dX3_next_159 rfl (fun c_7 => ?_) (fun c_7 => ?_)
      · have K := K.1 c_7
        refine JW.aload_n dX3_next_169 rfl ?_
        refine JW.dup dX3_next_170 rfl ?_
        refine JW.mget (v := vI k7) dX3_next_171 fX3_101 rfl ?_
        refine JW.iconst dX3_next_174 rfl ?_
        refine JW.iadd dX3_next_175 ?_
        refine JW.mputI dX3_next_176 (pX3_101 _) rfl ?_
        refine JW.steq (s2 := sS (sS (sS (sS (sS s 7 (i32 (k7 + 1))) 8 k8) 9 k9) 10 k10) 11 (-1)) (by simp only [sA_A, sS_S, sA_S, sA_lt, sS_lt, Nat.reduceLT, id_eq] <;> rfl) ?_
        refine JW.iinc (ls' := [(0, vR 351), (1, vI (i32 (x1 + 1)))]) dX3_next_179 (Nat.le_of_ble_eq_true rfl) rfl rfl ?_
        refine JW.goto (tgt := 102) dX3_next_182 rfl ?_
        exact JW.pick [0, 1] rfl K
      · have K := K.2 c_7
        refine JW.aload_n dX3_next_162 rfl ?_
        refine JW.ldc2 (x := (-1)) dX3_next_163 (by rw [show Int64.ofInt (-1) = -1 from by decide]; exact q1682) rfl ?_
        refine JW.mputL dX3_next_166 (pX3_114 _) rfl ?_
        refine JW.steq (s2 := sS (sS (sS (sS (sS s 7 k7) 8 k8) 9 k9) 10 k10) 11 (-1)) (by simp only [sA_A, sS_S, sA_S, sA_lt, sS_lt, Nat.reduceLT, id_eq] <;> rfl) ?_
        refine JW.aload_n dX3_next_169 rfl ?_
        refine JW.dup dX3_next_170 rfl ?_
        refine JW.mget (v := vI k7) dX3_next_171 fX3_101 rfl ?_
        refine JW.iconst dX3_next_174 rfl ?_
        refine JW.iadd dX3_next_175 ?_
        refine JW.mputI dX3_next_176 (pX3_101 _) rfl ?_
        refine JW.steq (s2 := sS (sS (sS (sS (sS s 7 (i32 (k7 + 1))) 8 k8) 9 k9) 10 k10) 11 (-1)) (by simp only [sA_A, sS_S, sA_S, sA_lt, sS_lt, Nat.reduceLT, id_eq] <;> rfl) ?_
        refine JW.iinc (ls' := [(0, vR 351), (1, vI (i32 (x1 + 1)))]) dX3_next_179 (Nat.le_of_ble_eq_true rfl) rfl rfl ?_
        refine JW.goto (tgt := 102) dX3_next_182 rfl ?_
        exact JW.pick [0, 1] rfl K
theorem bX3_next_208 {Q : Option AV → MS → Prop} (b : AH) (s : MS) (k7 : Int) (k8 : Int) (k9 : Int) (k10 : Int) (k11 : Int) (K : (0 ≤ k7 ∧ (s.1 6) ≤ 800) ∧ (((bI (k7 < (s.1 6) ∧ (48 : Int) ≤ (s.2 4) k7 ∧ (s.2 4) k7 ≤ (57 : Int))) = 0 → Q none (sS (sS (sS (sS (sS s 7 k7) 8 k8) 9 k9) 10 k10) 11 k11)) ∧ (¬ (bI (k7 < (s.1 6) ∧ (48 : Int) ≤ (s.2 4) k7 ∧ (s.2 4) k7 ≤ (57 : Int))) = 0 → (k10 ≤ 100000 → (0 ≤ k7 ∧ k7 < 800) ∧ (HX3_next_208 Q b s (i32 (k7 + 1)) k8 k9 (i32 ((i32 ((i32 (10 * k10)) + (s.2 4 k7))) - 48)) k11)) ∧ (¬ k10 ≤ 100000 → HX3_next_208 Q b s (i32 (k7 + 1)) k8 k9 1000000 k11)))) : HX3_next_208 Q b s k7 k8 k9 k10 k11 := by
  refine JW.aload_n dX3_next_208 rfl ?_
  refine JW.aload_n dX3_next_209 rfl ?_
  refine JW.mget (v := vI k7) dX3_next_210 fX3_101 rfl ?_
  refine JW.bipush dX3_next_213 rfl ?_
  refine JW.bipush dX3_next_215 rfl ?_
  obtain ⟨o_1, K⟩ := K
  refine JW.mcall (As := [vI k7, vI 48, vI 57]) dX3_next_217 vX3_isByte rfl q1678 (ctX3_isByte b (sS (sS (sS (sS (sS s 7 k7) 8 k8) 9 k9) 10 k10) 11 k11) k7 48 57 o_1) (Nat.le_of_ble_eq_true rfl) rfl (Nat.le_of_ble_eq_true rfl) ?_
  rintro _ _ ⟨rfl, eq_2⟩
  refine JW.steq (s2 := sS (sS (sS (sS (sS s 7 k7) 8 k8) 9 k9) 10 k10) 11 k11) eq_2 ?_
  refine JW.if_eq (tgt := 307) dX3_next_220 rfl (fun c_3 => ?_) (fun c_3 => ?_)
  · have K := K.1 c_3
    exact JW.vreturn dX3_next_307 rfl ⟨_, rfl, K⟩
  · have K := K.2 c_3
    refine JW.aload_n dX3_next_223 rfl ?_
    refine JW.aload_n dX3_next_224 rfl ?_
    refine JW.mget (v := vI k10) dX3_next_225 fX3_111 rfl ?_
    refine JW.ldc (x := 100000) dX3_next_228 q1685 rfl ?_
    refine JW.icmp_le (tgt := 238) dX3_next_230 rfl (fun c_4 => ?_) (fun c_4 => ?_)
    · have K := K.1 c_4
      refine JW.bipush dX3_next_238 rfl ?_
      refine JW.aload_n dX3_next_240 rfl ?_
      refine JW.mget (v := vI k10) dX3_next_241 fX3_111 rfl ?_
      refine JW.imul dX3_next_244 ?_
      refine JW.aload_n dX3_next_245 rfl ?_
      refine JW.mget (v := vR 356) dX3_next_246 fX3_23 rfl ?_
      refine JW.aload_n dX3_next_249 rfl ?_
      refine JW.mget (v := vI k7) dX3_next_250 fX3_101 rfl ?_
      obtain ⟨o_5, K⟩ := K
      refine JW.mbld 4 (x := (s.2 4 k7)) dX3_next_253 (Nat.le_of_ble_eq_true rfl) rfl o_5.1 o_5.2 rfl ?_
      refine JW.iadd dX3_next_254 ?_
      refine JW.bipush dX3_next_255 rfl ?_
      refine JW.isub dX3_next_257 ?_
      refine JW.mputI dX3_next_258 (pX3_111 _) rfl ?_
      refine JW.steq (s2 := sS (sS (sS (sS (sS s 7 k7) 8 k8) 9 k9) 10 (i32 ((i32 ((i32 (10 * k10)) + (s.2 4 k7))) - 48))) 11 k11) (by simp only [sA_A, sS_S, sA_S, sA_lt, sS_lt, Nat.reduceLT, id_eq] <;> rfl) ?_
      refine JW.aload_n dX3_next_261 rfl ?_
      refine JW.dup dX3_next_262 rfl ?_
      refine JW.mget (v := vI k7) dX3_next_263 fX3_101 rfl ?_
      refine JW.iconst dX3_next_266 rfl ?_
      refine JW.iadd dX3_next_267 ?_
      refine JW.mputI dX3_next_268 (pX3_101 _) rfl ?_
      refine JW.steq (s2 := sS (sS (sS (sS (sS s 7 (i32 (k7 + 1))) 8 k8) 9 k9) 10 (i32 ((i32 ((i32 (10 * k10)) + (s.2 4 k7))) - 48))) 11 k11) (by simp only [sA_A, sS_S, sA_S, sA_lt, sS_lt, Nat.reduceLT, id_eq] <;> rfl) ?_
      refine JW.goto (tgt := 208) dX3_next_271 rfl ?_
      exact JW.pick [0] rfl K
    · have K := K.2 c_4
      refine JW.ldc (x := 1000000) dX3_next_233 q1686 rfl ?_
      refine JW.goto (tgt := 258) dX3_next_235 rfl ?_
      refine JW.mputI dX3_next_258 (pX3_111 _) rfl ?_
      refine JW.steq (s2 := sS (sS (sS (sS (sS s 7 k7) 8 k8) 9 k9) 10 1000000) 11 k11) (by simp only [sA_A, sS_S, sA_S, sA_lt, sS_lt, Nat.reduceLT, id_eq] <;> rfl) ?_
      refine JW.aload_n dX3_next_261 rfl ?_
      refine JW.dup dX3_next_262 rfl ?_
      refine JW.mget (v := vI k7) dX3_next_263 fX3_101 rfl ?_
      refine JW.iconst dX3_next_266 rfl ?_
      refine JW.iadd dX3_next_267 ?_
      refine JW.mputI dX3_next_268 (pX3_101 _) rfl ?_
      refine JW.steq (s2 := sS (sS (sS (sS (sS s 7 (i32 (k7 + 1))) 8 k8) 9 k9) 10 1000000) 11 k11) (by simp only [sA_A, sS_S, sA_S, sA_lt, sS_lt, Nat.reduceLT, id_eq] <;> rfl) ?_
      refine JW.goto (tgt := 208) dX3_next_271 rfl ?_
      exact JW.pick [0] rfl K
def QX3_next (s : MS) : Option AV → MS → Prop := fun v s' => v = none ∧ s' = sS (sS (sS (sS (sS s 7 (enx (s.2 4) (s.1 6) (s.1 7))) 8 (knd (s.2 4) (s.1 6) (s.1 7))) 9 (plc (s.2 4) (s.1 6) (s.1 7))) 10 (vlu (s.2 4) (s.1 6) (s.1 7))) 11 (wrd (s.2 4) (s.1 6) (s.1 7))
theorem vcX3_next_1 (s : MS) (hp : 0 ≤ (s.1 7) ∧ (s.1 7) ≤ (s.1 6) ∧ (s.1 6) ≤ 800) (k7 : Int) (k8 : Int) (k9 : Int) (k10 : Int) (k11 : Int) (hI : (0 ≤ k7 ∧ k7 ≤ s.1 6) ∧ plc (s.2 4) (s.1 6) k7 = plc (s.2 4) (s.1 6) (s.1 7)) : (0 ≤ k7 ∧ (s.1 6) ≤ 800) := by
  (try simp only [bI_0, bI_n, Classical.not_not] at *)
  (try have hp7 : plc (s.2 4) (s.1 6) (s.1 7) = k7 := hI.2.symm.trans (adv_n (fun h => h.elim c_3 c_5)))
  (try have hk := tok_sign hp7 c_6 c_8 c_10)
  (try have he := tok_end hp7 c_6)
  (try have hw := tok_word hI.2.1 hI.2.2.1)
  (try have ha : adv (isB (s.2 4) (s.1 6) 97 122) k9 = k7 := hI.2.2.2.1.symm.trans (adv_n c_3))
  (try have hcb := cw_b (t := s.2 4) (q := k9) x1.toNat (by omega) (fun i a => hI.2.2.2.2.1 i (by omega)))
  (try have hcm : (27 : Int) ^ x1.toNat ≤ 5559060566555523 := Int.le_trans (pow_mono' (by omega) (n := 11) (by omega)) (by decide))
  (try have hn := tok_num hI.2.1 hI.2.2.1.1 hI.2.2.1.2)
  (try have ha : adv (isB (s.2 4) (s.1 6) 48 57) k9 = k7 := hI.2.2.2.1.symm.trans (adv_n c_3))
  (try have hcv := cv_b (t := s.2 4) (q := k9) (k7 - k9).toNat (fun i a => hI.2.2.2.2.1 i (by omega)))
  (try unfold lex3)
  (try simp only [bI_0, bI_n, Classical.not_not] at *)
  (try simp (disch := omega) only [i32_id] at *)
  first | done | omega | ((repeat' (with_reducible apply And.intro)) <;> first | assumption | rfl | omega | (rw [← hI.2]; exact (adv_y isWs_T (Or.inl c_3)).symm) | (rw [← hI.2]; exact (adv_y isWs_T (Or.inr c_5)).symm) | (exact hp7) | (exact hp7.symm) | (exact (hk.2.1 c_12).symm) | (exact (hk.1 c_12).symm) | (exact hk.2.2.1.symm) | (exact hk.2.2.2.2.symm) | (exact hk.2.2.2.1.symm) | (exact he.2.1.symm) | (exact he.1.symm) | (exact he.2.2.2.symm) | (exact he.2.2.1.symm) | (exact c_8) | (exact c_10) | (intro i hi; omega) | (rw [show (k7 - k7).toNat = 0 by omega]; rfl) | (exact hI.2.1) | (exact hI.2.1.symm) | (exact hI.2.2.1) | (exact hI.2.2.1.1) | (exact hI.2.2.1.2) | (rw [hw.2.1, ha]) | (rw [hw.1]; exact hI.2.2.2.2.2.1) | (rw [hw.2.2.2]; exact hI.2.2.2.2.2.2.1) | (rw [hw.2.2.1, ha, show k7 - k9 = x1 by omega]; exact hI.2.2.2.2.2.2.2) | (rw [hn.2.1, ha]) | (rw [hn.1]; exact hI.2.2.2.2.2.1) | (rw [hn.2.2.2]; exact hI.2.2.2.2.2.2.1) | (rw [hn.2.2.1, ha]; exact hI.2.2.2.2.2.2.2) | (rw [← hI.2.2.2.1]; exact (adv_y isB_T c_3).symm) | (intro i hi; by_cases e : (i : Int) = x1; (focus (rw [e, ← hI.1.2.1]; omega)); (focus (exact hI.2.2.2.2.1 i (by omega)))) | (intro i hi; by_cases e : (i : Int) = k7 - k9; (focus (rw [e, show k9 + (k7 - k9) = k7 by omega]; omega)); (focus (exact hI.2.2.2.2.1 i (by omega)))) | (rw [cw_s _ _ hI.1.1, if_neg (by omega), ← hI.2.2.2.2.2.2.2, ← hI.1.2.1, i64_id (x := 27 * k11) (by omega) (by omega), i64_id (x := 27 * k11 + s.2 4 k7) (by omega) (by omega), i64_id (by omega) (by omega)]) | (rw [cw_s _ _ hI.1.1, if_pos (by omega)]) | (rw [show k7 + 1 - k9 = (k7 - k9) + 1 by omega, cv_s _ _ (by omega), if_neg (by omega), ← hI.2.2.2.2.2.2.2, show k9 + (k7 - k9) = k7 by omega]) | (rw [show k7 + 1 - k9 = (k7 - k9) + 1 by omega, cv_s _ _ (by omega), if_pos (by omega)]) | grind [upI])
theorem vcX3_next_2 (s : MS) (hp : 0 ≤ (s.1 7) ∧ (s.1 7) ≤ (s.1 6) ∧ (s.1 6) ≤ 800) (k7 : Int) (k8 : Int) (k9 : Int) (k10 : Int) (k11 : Int) (hI : (0 ≤ k7 ∧ k7 ≤ s.1 6) ∧ plc (s.2 4) (s.1 6) k7 = plc (s.2 4) (s.1 6) (s.1 7)) (o_1 : (0 ≤ k7 ∧ (s.1 6) ≤ 800)) (c_3 : ¬ (bI (k7 < (s.1 6) ∧ (32 : Int) ≤ (s.2 4) k7 ∧ (s.2 4) k7 ≤ (32 : Int))) = 0) : (0 ≤ (i32 (k7 + 1)) ∧ (i32 (k7 + 1)) ≤ s.1 6) ∧ plc (s.2 4) (s.1 6) (i32 (k7 + 1)) = plc (s.2 4) (s.1 6) (s.1 7) := by
  (try simp only [bI_0, bI_n, Classical.not_not] at *)
  (try have hp7 : plc (s.2 4) (s.1 6) (s.1 7) = k7 := hI.2.symm.trans (adv_n (fun h => h.elim c_3 c_5)))
  (try have hk := tok_sign hp7 c_6 c_8 c_10)
  (try have he := tok_end hp7 c_6)
  (try have hw := tok_word hI.2.1 hI.2.2.1)
  (try have ha : adv (isB (s.2 4) (s.1 6) 97 122) k9 = k7 := hI.2.2.2.1.symm.trans (adv_n c_3))
  (try have hcb := cw_b (t := s.2 4) (q := k9) x1.toNat (by omega) (fun i a => hI.2.2.2.2.1 i (by omega)))
  (try have hcm : (27 : Int) ^ x1.toNat ≤ 5559060566555523 := Int.le_trans (pow_mono' (by omega) (n := 11) (by omega)) (by decide))
  (try have hn := tok_num hI.2.1 hI.2.2.1.1 hI.2.2.1.2)
  (try have ha : adv (isB (s.2 4) (s.1 6) 48 57) k9 = k7 := hI.2.2.2.1.symm.trans (adv_n c_3))
  (try have hcv := cv_b (t := s.2 4) (q := k9) (k7 - k9).toNat (fun i a => hI.2.2.2.2.1 i (by omega)))
  (try unfold lex3)
  (try simp only [bI_0, bI_n, Classical.not_not] at *)
  (try simp (disch := omega) only [i32_id] at *)
  first | done | omega | ((repeat' (with_reducible apply And.intro)) <;> first | assumption | rfl | omega | (rw [← hI.2]; exact (adv_y isWs_T (Or.inl c_3)).symm) | (rw [← hI.2]; exact (adv_y isWs_T (Or.inr c_5)).symm) | (exact hp7) | (exact hp7.symm) | (exact (hk.2.1 c_12).symm) | (exact (hk.1 c_12).symm) | (exact hk.2.2.1.symm) | (exact hk.2.2.2.2.symm) | (exact hk.2.2.2.1.symm) | (exact he.2.1.symm) | (exact he.1.symm) | (exact he.2.2.2.symm) | (exact he.2.2.1.symm) | (exact c_8) | (exact c_10) | (intro i hi; omega) | (rw [show (k7 - k7).toNat = 0 by omega]; rfl) | (exact hI.2.1) | (exact hI.2.1.symm) | (exact hI.2.2.1) | (exact hI.2.2.1.1) | (exact hI.2.2.1.2) | (rw [hw.2.1, ha]) | (rw [hw.1]; exact hI.2.2.2.2.2.1) | (rw [hw.2.2.2]; exact hI.2.2.2.2.2.2.1) | (rw [hw.2.2.1, ha, show k7 - k9 = x1 by omega]; exact hI.2.2.2.2.2.2.2) | (rw [hn.2.1, ha]) | (rw [hn.1]; exact hI.2.2.2.2.2.1) | (rw [hn.2.2.2]; exact hI.2.2.2.2.2.2.1) | (rw [hn.2.2.1, ha]; exact hI.2.2.2.2.2.2.2) | (rw [← hI.2.2.2.1]; exact (adv_y isB_T c_3).symm) | (intro i hi; by_cases e : (i : Int) = x1; (focus (rw [e, ← hI.1.2.1]; omega)); (focus (exact hI.2.2.2.2.1 i (by omega)))) | (intro i hi; by_cases e : (i : Int) = k7 - k9; (focus (rw [e, show k9 + (k7 - k9) = k7 by omega]; omega)); (focus (exact hI.2.2.2.2.1 i (by omega)))) | (rw [cw_s _ _ hI.1.1, if_neg (by omega), ← hI.2.2.2.2.2.2.2, ← hI.1.2.1, i64_id (x := 27 * k11) (by omega) (by omega), i64_id (x := 27 * k11 + s.2 4 k7) (by omega) (by omega), i64_id (by omega) (by omega)]) | (rw [cw_s _ _ hI.1.1, if_pos (by omega)]) | (rw [show k7 + 1 - k9 = (k7 - k9) + 1 by omega, cv_s _ _ (by omega), if_neg (by omega), ← hI.2.2.2.2.2.2.2, show k9 + (k7 - k9) = k7 by omega]) | (rw [show k7 + 1 - k9 = (k7 - k9) + 1 by omega, cv_s _ _ (by omega), if_pos (by omega)]) | grind [upI])
theorem vcX3_next_3 (s : MS) (hp : 0 ≤ (s.1 7) ∧ (s.1 7) ≤ (s.1 6) ∧ (s.1 6) ≤ 800) (k7 : Int) (k8 : Int) (k9 : Int) (k10 : Int) (k11 : Int) (hI : (0 ≤ k7 ∧ k7 ≤ s.1 6) ∧ plc (s.2 4) (s.1 6) k7 = plc (s.2 4) (s.1 6) (s.1 7)) (o_1 : (0 ≤ k7 ∧ (s.1 6) ≤ 800)) (c_3 : ¬ (bI (k7 < (s.1 6) ∧ (32 : Int) ≤ (s.2 4) k7 ∧ (s.2 4) k7 ≤ (32 : Int))) = 0) : lex3 0 2 ((s.1 6 - (i32 (k7 + 1))).toNat) 0 2 ((s.1 6 - k7).toNat) := by
  (try simp only [bI_0, bI_n, Classical.not_not] at *)
  (try have hp7 : plc (s.2 4) (s.1 6) (s.1 7) = k7 := hI.2.symm.trans (adv_n (fun h => h.elim c_3 c_5)))
  (try have hk := tok_sign hp7 c_6 c_8 c_10)
  (try have he := tok_end hp7 c_6)
  (try have hw := tok_word hI.2.1 hI.2.2.1)
  (try have ha : adv (isB (s.2 4) (s.1 6) 97 122) k9 = k7 := hI.2.2.2.1.symm.trans (adv_n c_3))
  (try have hcb := cw_b (t := s.2 4) (q := k9) x1.toNat (by omega) (fun i a => hI.2.2.2.2.1 i (by omega)))
  (try have hcm : (27 : Int) ^ x1.toNat ≤ 5559060566555523 := Int.le_trans (pow_mono' (by omega) (n := 11) (by omega)) (by decide))
  (try have hn := tok_num hI.2.1 hI.2.2.1.1 hI.2.2.1.2)
  (try have ha : adv (isB (s.2 4) (s.1 6) 48 57) k9 = k7 := hI.2.2.2.1.symm.trans (adv_n c_3))
  (try have hcv := cv_b (t := s.2 4) (q := k9) (k7 - k9).toNat (fun i a => hI.2.2.2.2.1 i (by omega)))
  (try unfold lex3)
  (try simp only [bI_0, bI_n, Classical.not_not] at *)
  (try simp (disch := omega) only [i32_id] at *)
  first | done | omega | ((repeat' (with_reducible apply And.intro)) <;> first | assumption | rfl | omega | (rw [← hI.2]; exact (adv_y isWs_T (Or.inl c_3)).symm) | (rw [← hI.2]; exact (adv_y isWs_T (Or.inr c_5)).symm) | (exact hp7) | (exact hp7.symm) | (exact (hk.2.1 c_12).symm) | (exact (hk.1 c_12).symm) | (exact hk.2.2.1.symm) | (exact hk.2.2.2.2.symm) | (exact hk.2.2.2.1.symm) | (exact he.2.1.symm) | (exact he.1.symm) | (exact he.2.2.2.symm) | (exact he.2.2.1.symm) | (exact c_8) | (exact c_10) | (intro i hi; omega) | (rw [show (k7 - k7).toNat = 0 by omega]; rfl) | (exact hI.2.1) | (exact hI.2.1.symm) | (exact hI.2.2.1) | (exact hI.2.2.1.1) | (exact hI.2.2.1.2) | (rw [hw.2.1, ha]) | (rw [hw.1]; exact hI.2.2.2.2.2.1) | (rw [hw.2.2.2]; exact hI.2.2.2.2.2.2.1) | (rw [hw.2.2.1, ha, show k7 - k9 = x1 by omega]; exact hI.2.2.2.2.2.2.2) | (rw [hn.2.1, ha]) | (rw [hn.1]; exact hI.2.2.2.2.2.1) | (rw [hn.2.2.2]; exact hI.2.2.2.2.2.2.1) | (rw [hn.2.2.1, ha]; exact hI.2.2.2.2.2.2.2) | (rw [← hI.2.2.2.1]; exact (adv_y isB_T c_3).symm) | (intro i hi; by_cases e : (i : Int) = x1; (focus (rw [e, ← hI.1.2.1]; omega)); (focus (exact hI.2.2.2.2.1 i (by omega)))) | (intro i hi; by_cases e : (i : Int) = k7 - k9; (focus (rw [e, show k9 + (k7 - k9) = k7 by omega]; omega)); (focus (exact hI.2.2.2.2.1 i (by omega)))) | (rw [cw_s _ _ hI.1.1, if_neg (by omega), ← hI.2.2.2.2.2.2.2, ← hI.1.2.1, i64_id (x := 27 * k11) (by omega) (by omega), i64_id (x := 27 * k11 + s.2 4 k7) (by omega) (by omega), i64_id (by omega) (by omega)]) | (rw [cw_s _ _ hI.1.1, if_pos (by omega)]) | (rw [show k7 + 1 - k9 = (k7 - k9) + 1 by omega, cv_s _ _ (by omega), if_neg (by omega), ← hI.2.2.2.2.2.2.2, show k9 + (k7 - k9) = k7 by omega]) | (rw [show k7 + 1 - k9 = (k7 - k9) + 1 by omega, cv_s _ _ (by omega), if_pos (by omega)]) | grind [upI])
theorem vcX3_next_4 (s : MS) (hp : 0 ≤ (s.1 7) ∧ (s.1 7) ≤ (s.1 6) ∧ (s.1 6) ≤ 800) (k7 : Int) (k8 : Int) (k9 : Int) (k10 : Int) (k11 : Int) (hI : (0 ≤ k7 ∧ k7 ≤ s.1 6) ∧ plc (s.2 4) (s.1 6) k7 = plc (s.2 4) (s.1 6) (s.1 7)) (o_1 : (0 ≤ k7 ∧ (s.1 6) ≤ 800)) (c_3 : (bI (k7 < (s.1 6) ∧ (32 : Int) ≤ (s.2 4) k7 ∧ (s.2 4) k7 ≤ (32 : Int))) = 0) (c_5 : (bI (k7 < (s.1 6) ∧ (10 : Int) ≤ (s.2 4) k7 ∧ (s.2 4) k7 ≤ (10 : Int))) = 0) (c_6 : ¬ k7 = (s.1 6)) (c_8 : (bI (k7 < (s.1 6) ∧ (97 : Int) ≤ (s.2 4) k7 ∧ (s.2 4) k7 ≤ (122 : Int))) = 0) (c_10 : (bI (k7 < (s.1 6) ∧ (48 : Int) ≤ (s.2 4) k7 ∧ (s.2 4) k7 ≤ (57 : Int))) = 0) : (0 ≤ k7 ∧ k7 < 800) := by
  (try simp only [bI_0, bI_n, Classical.not_not] at *)
  (try have hp7 : plc (s.2 4) (s.1 6) (s.1 7) = k7 := hI.2.symm.trans (adv_n (fun h => h.elim c_3 c_5)))
  (try have hk := tok_sign hp7 c_6 c_8 c_10)
  (try have he := tok_end hp7 c_6)
  (try have hw := tok_word hI.2.1 hI.2.2.1)
  (try have ha : adv (isB (s.2 4) (s.1 6) 97 122) k9 = k7 := hI.2.2.2.1.symm.trans (adv_n c_3))
  (try have hcb := cw_b (t := s.2 4) (q := k9) x1.toNat (by omega) (fun i a => hI.2.2.2.2.1 i (by omega)))
  (try have hcm : (27 : Int) ^ x1.toNat ≤ 5559060566555523 := Int.le_trans (pow_mono' (by omega) (n := 11) (by omega)) (by decide))
  (try have hn := tok_num hI.2.1 hI.2.2.1.1 hI.2.2.1.2)
  (try have ha : adv (isB (s.2 4) (s.1 6) 48 57) k9 = k7 := hI.2.2.2.1.symm.trans (adv_n c_3))
  (try have hcv := cv_b (t := s.2 4) (q := k9) (k7 - k9).toNat (fun i a => hI.2.2.2.2.1 i (by omega)))
  (try unfold lex3)
  (try simp only [bI_0, bI_n, Classical.not_not] at *)
  (try simp (disch := omega) only [i32_id] at *)
  first | done | omega | ((repeat' (with_reducible apply And.intro)) <;> first | assumption | rfl | omega | (rw [← hI.2]; exact (adv_y isWs_T (Or.inl c_3)).symm) | (rw [← hI.2]; exact (adv_y isWs_T (Or.inr c_5)).symm) | (exact hp7) | (exact hp7.symm) | (exact (hk.2.1 c_12).symm) | (exact (hk.1 c_12).symm) | (exact hk.2.2.1.symm) | (exact hk.2.2.2.2.symm) | (exact hk.2.2.2.1.symm) | (exact he.2.1.symm) | (exact he.1.symm) | (exact he.2.2.2.symm) | (exact he.2.2.1.symm) | (exact c_8) | (exact c_10) | (intro i hi; omega) | (rw [show (k7 - k7).toNat = 0 by omega]; rfl) | (exact hI.2.1) | (exact hI.2.1.symm) | (exact hI.2.2.1) | (exact hI.2.2.1.1) | (exact hI.2.2.1.2) | (rw [hw.2.1, ha]) | (rw [hw.1]; exact hI.2.2.2.2.2.1) | (rw [hw.2.2.2]; exact hI.2.2.2.2.2.2.1) | (rw [hw.2.2.1, ha, show k7 - k9 = x1 by omega]; exact hI.2.2.2.2.2.2.2) | (rw [hn.2.1, ha]) | (rw [hn.1]; exact hI.2.2.2.2.2.1) | (rw [hn.2.2.2]; exact hI.2.2.2.2.2.2.1) | (rw [hn.2.2.1, ha]; exact hI.2.2.2.2.2.2.2) | (rw [← hI.2.2.2.1]; exact (adv_y isB_T c_3).symm) | (intro i hi; by_cases e : (i : Int) = x1; (focus (rw [e, ← hI.1.2.1]; omega)); (focus (exact hI.2.2.2.2.1 i (by omega)))) | (intro i hi; by_cases e : (i : Int) = k7 - k9; (focus (rw [e, show k9 + (k7 - k9) = k7 by omega]; omega)); (focus (exact hI.2.2.2.2.1 i (by omega)))) | (rw [cw_s _ _ hI.1.1, if_neg (by omega), ← hI.2.2.2.2.2.2.2, ← hI.1.2.1, i64_id (x := 27 * k11) (by omega) (by omega), i64_id (x := 27 * k11 + s.2 4 k7) (by omega) (by omega), i64_id (by omega) (by omega)]) | (rw [cw_s _ _ hI.1.1, if_pos (by omega)]) | (rw [show k7 + 1 - k9 = (k7 - k9) + 1 by omega, cv_s _ _ (by omega), if_neg (by omega), ← hI.2.2.2.2.2.2.2, show k9 + (k7 - k9) = k7 by omega]) | (rw [show k7 + 1 - k9 = (k7 - k9) + 1 by omega, cv_s _ _ (by omega), if_pos (by omega)]) | grind [upI])
theorem vcX3_next_5 (s : MS) (hp : 0 ≤ (s.1 7) ∧ (s.1 7) ≤ (s.1 6) ∧ (s.1 6) ≤ 800) (k7 : Int) (k8 : Int) (k9 : Int) (k10 : Int) (k11 : Int) (hI : (0 ≤ k7 ∧ k7 ≤ s.1 6) ∧ plc (s.2 4) (s.1 6) k7 = plc (s.2 4) (s.1 6) (s.1 7)) (o_1 : (0 ≤ k7 ∧ (s.1 6) ≤ 800)) (c_3 : (bI (k7 < (s.1 6) ∧ (32 : Int) ≤ (s.2 4) k7 ∧ (s.2 4) k7 ≤ (32 : Int))) = 0) (c_5 : (bI (k7 < (s.1 6) ∧ (10 : Int) ≤ (s.2 4) k7 ∧ (s.2 4) k7 ≤ (10 : Int))) = 0) (c_6 : ¬ k7 = (s.1 6)) (c_8 : (bI (k7 < (s.1 6) ∧ (97 : Int) ≤ (s.2 4) k7 ∧ (s.2 4) k7 ≤ (122 : Int))) = 0) (c_10 : (bI (k7 < (s.1 6) ∧ (48 : Int) ≤ (s.2 4) k7 ∧ (s.2 4) k7 ≤ (57 : Int))) = 0) (o_11 : (0 ≤ k7 ∧ k7 < 800)) (c_12 : ¬ (s.2 4 k7) = 59) : (i32 (k7 + 1)) = (enx (s.2 4) (s.1 6) (s.1 7)) := by
  (try simp only [bI_0, bI_n, Classical.not_not] at *)
  (try have hp7 : plc (s.2 4) (s.1 6) (s.1 7) = k7 := hI.2.symm.trans (adv_n (fun h => h.elim c_3 c_5)))
  (try have hk := tok_sign hp7 c_6 c_8 c_10)
  (try have he := tok_end hp7 c_6)
  (try have hw := tok_word hI.2.1 hI.2.2.1)
  (try have ha : adv (isB (s.2 4) (s.1 6) 97 122) k9 = k7 := hI.2.2.2.1.symm.trans (adv_n c_3))
  (try have hcb := cw_b (t := s.2 4) (q := k9) x1.toNat (by omega) (fun i a => hI.2.2.2.2.1 i (by omega)))
  (try have hcm : (27 : Int) ^ x1.toNat ≤ 5559060566555523 := Int.le_trans (pow_mono' (by omega) (n := 11) (by omega)) (by decide))
  (try have hn := tok_num hI.2.1 hI.2.2.1.1 hI.2.2.1.2)
  (try have ha : adv (isB (s.2 4) (s.1 6) 48 57) k9 = k7 := hI.2.2.2.1.symm.trans (adv_n c_3))
  (try have hcv := cv_b (t := s.2 4) (q := k9) (k7 - k9).toNat (fun i a => hI.2.2.2.2.1 i (by omega)))
  (try unfold lex3)
  (try simp only [bI_0, bI_n, Classical.not_not] at *)
  (try simp (disch := omega) only [i32_id] at *)
  first | done | omega | ((repeat' (with_reducible apply And.intro)) <;> first | assumption | rfl | omega | (rw [← hI.2]; exact (adv_y isWs_T (Or.inl c_3)).symm) | (rw [← hI.2]; exact (adv_y isWs_T (Or.inr c_5)).symm) | (exact hp7) | (exact hp7.symm) | (exact (hk.2.1 c_12).symm) | (exact (hk.1 c_12).symm) | (exact hk.2.2.1.symm) | (exact hk.2.2.2.2.symm) | (exact hk.2.2.2.1.symm) | (exact he.2.1.symm) | (exact he.1.symm) | (exact he.2.2.2.symm) | (exact he.2.2.1.symm) | (exact c_8) | (exact c_10) | (intro i hi; omega) | (rw [show (k7 - k7).toNat = 0 by omega]; rfl) | (exact hI.2.1) | (exact hI.2.1.symm) | (exact hI.2.2.1) | (exact hI.2.2.1.1) | (exact hI.2.2.1.2) | (rw [hw.2.1, ha]) | (rw [hw.1]; exact hI.2.2.2.2.2.1) | (rw [hw.2.2.2]; exact hI.2.2.2.2.2.2.1) | (rw [hw.2.2.1, ha, show k7 - k9 = x1 by omega]; exact hI.2.2.2.2.2.2.2) | (rw [hn.2.1, ha]) | (rw [hn.1]; exact hI.2.2.2.2.2.1) | (rw [hn.2.2.2]; exact hI.2.2.2.2.2.2.1) | (rw [hn.2.2.1, ha]; exact hI.2.2.2.2.2.2.2) | (rw [← hI.2.2.2.1]; exact (adv_y isB_T c_3).symm) | (intro i hi; by_cases e : (i : Int) = x1; (focus (rw [e, ← hI.1.2.1]; omega)); (focus (exact hI.2.2.2.2.1 i (by omega)))) | (intro i hi; by_cases e : (i : Int) = k7 - k9; (focus (rw [e, show k9 + (k7 - k9) = k7 by omega]; omega)); (focus (exact hI.2.2.2.2.1 i (by omega)))) | (rw [cw_s _ _ hI.1.1, if_neg (by omega), ← hI.2.2.2.2.2.2.2, ← hI.1.2.1, i64_id (x := 27 * k11) (by omega) (by omega), i64_id (x := 27 * k11 + s.2 4 k7) (by omega) (by omega), i64_id (by omega) (by omega)]) | (rw [cw_s _ _ hI.1.1, if_pos (by omega)]) | (rw [show k7 + 1 - k9 = (k7 - k9) + 1 by omega, cv_s _ _ (by omega), if_neg (by omega), ← hI.2.2.2.2.2.2.2, show k9 + (k7 - k9) = k7 by omega]) | (rw [show k7 + 1 - k9 = (k7 - k9) + 1 by omega, cv_s _ _ (by omega), if_pos (by omega)]) | grind [upI])
theorem vcX3_next_6 (s : MS) (hp : 0 ≤ (s.1 7) ∧ (s.1 7) ≤ (s.1 6) ∧ (s.1 6) ≤ 800) (k7 : Int) (k8 : Int) (k9 : Int) (k10 : Int) (k11 : Int) (hI : (0 ≤ k7 ∧ k7 ≤ s.1 6) ∧ plc (s.2 4) (s.1 6) k7 = plc (s.2 4) (s.1 6) (s.1 7)) (o_1 : (0 ≤ k7 ∧ (s.1 6) ≤ 800)) (c_3 : (bI (k7 < (s.1 6) ∧ (32 : Int) ≤ (s.2 4) k7 ∧ (s.2 4) k7 ≤ (32 : Int))) = 0) (c_5 : (bI (k7 < (s.1 6) ∧ (10 : Int) ≤ (s.2 4) k7 ∧ (s.2 4) k7 ≤ (10 : Int))) = 0) (c_6 : ¬ k7 = (s.1 6)) (c_8 : (bI (k7 < (s.1 6) ∧ (97 : Int) ≤ (s.2 4) k7 ∧ (s.2 4) k7 ≤ (122 : Int))) = 0) (c_10 : (bI (k7 < (s.1 6) ∧ (48 : Int) ≤ (s.2 4) k7 ∧ (s.2 4) k7 ≤ (57 : Int))) = 0) (o_11 : (0 ≤ k7 ∧ k7 < 800)) (c_12 : ¬ (s.2 4 k7) = 59) : 4 = (knd (s.2 4) (s.1 6) (s.1 7)) := by
  (try simp only [bI_0, bI_n, Classical.not_not] at *)
  (try have hp7 : plc (s.2 4) (s.1 6) (s.1 7) = k7 := hI.2.symm.trans (adv_n (fun h => h.elim c_3 c_5)))
  (try have hk := tok_sign hp7 c_6 c_8 c_10)
  (try have he := tok_end hp7 c_6)
  (try have hw := tok_word hI.2.1 hI.2.2.1)
  (try have ha : adv (isB (s.2 4) (s.1 6) 97 122) k9 = k7 := hI.2.2.2.1.symm.trans (adv_n c_3))
  (try have hcb := cw_b (t := s.2 4) (q := k9) x1.toNat (by omega) (fun i a => hI.2.2.2.2.1 i (by omega)))
  (try have hcm : (27 : Int) ^ x1.toNat ≤ 5559060566555523 := Int.le_trans (pow_mono' (by omega) (n := 11) (by omega)) (by decide))
  (try have hn := tok_num hI.2.1 hI.2.2.1.1 hI.2.2.1.2)
  (try have ha : adv (isB (s.2 4) (s.1 6) 48 57) k9 = k7 := hI.2.2.2.1.symm.trans (adv_n c_3))
  (try have hcv := cv_b (t := s.2 4) (q := k9) (k7 - k9).toNat (fun i a => hI.2.2.2.2.1 i (by omega)))
  (try unfold lex3)
  (try simp only [bI_0, bI_n, Classical.not_not] at *)
  (try simp (disch := omega) only [i32_id] at *)
  first | done | omega | ((repeat' (with_reducible apply And.intro)) <;> first | assumption | rfl | omega | (rw [← hI.2]; exact (adv_y isWs_T (Or.inl c_3)).symm) | (rw [← hI.2]; exact (adv_y isWs_T (Or.inr c_5)).symm) | (exact hp7) | (exact hp7.symm) | (exact (hk.2.1 c_12).symm) | (exact (hk.1 c_12).symm) | (exact hk.2.2.1.symm) | (exact hk.2.2.2.2.symm) | (exact hk.2.2.2.1.symm) | (exact he.2.1.symm) | (exact he.1.symm) | (exact he.2.2.2.symm) | (exact he.2.2.1.symm) | (exact c_8) | (exact c_10) | (intro i hi; omega) | (rw [show (k7 - k7).toNat = 0 by omega]; rfl) | (exact hI.2.1) | (exact hI.2.1.symm) | (exact hI.2.2.1) | (exact hI.2.2.1.1) | (exact hI.2.2.1.2) | (rw [hw.2.1, ha]) | (rw [hw.1]; exact hI.2.2.2.2.2.1) | (rw [hw.2.2.2]; exact hI.2.2.2.2.2.2.1) | (rw [hw.2.2.1, ha, show k7 - k9 = x1 by omega]; exact hI.2.2.2.2.2.2.2) | (rw [hn.2.1, ha]) | (rw [hn.1]; exact hI.2.2.2.2.2.1) | (rw [hn.2.2.2]; exact hI.2.2.2.2.2.2.1) | (rw [hn.2.2.1, ha]; exact hI.2.2.2.2.2.2.2) | (rw [← hI.2.2.2.1]; exact (adv_y isB_T c_3).symm) | (intro i hi; by_cases e : (i : Int) = x1; (focus (rw [e, ← hI.1.2.1]; omega)); (focus (exact hI.2.2.2.2.1 i (by omega)))) | (intro i hi; by_cases e : (i : Int) = k7 - k9; (focus (rw [e, show k9 + (k7 - k9) = k7 by omega]; omega)); (focus (exact hI.2.2.2.2.1 i (by omega)))) | (rw [cw_s _ _ hI.1.1, if_neg (by omega), ← hI.2.2.2.2.2.2.2, ← hI.1.2.1, i64_id (x := 27 * k11) (by omega) (by omega), i64_id (x := 27 * k11 + s.2 4 k7) (by omega) (by omega), i64_id (by omega) (by omega)]) | (rw [cw_s _ _ hI.1.1, if_pos (by omega)]) | (rw [show k7 + 1 - k9 = (k7 - k9) + 1 by omega, cv_s _ _ (by omega), if_neg (by omega), ← hI.2.2.2.2.2.2.2, show k9 + (k7 - k9) = k7 by omega]) | (rw [show k7 + 1 - k9 = (k7 - k9) + 1 by omega, cv_s _ _ (by omega), if_pos (by omega)]) | grind [upI])
theorem vcX3_next_7 (s : MS) (hp : 0 ≤ (s.1 7) ∧ (s.1 7) ≤ (s.1 6) ∧ (s.1 6) ≤ 800) (k7 : Int) (k8 : Int) (k9 : Int) (k10 : Int) (k11 : Int) (hI : (0 ≤ k7 ∧ k7 ≤ s.1 6) ∧ plc (s.2 4) (s.1 6) k7 = plc (s.2 4) (s.1 6) (s.1 7)) (o_1 : (0 ≤ k7 ∧ (s.1 6) ≤ 800)) (c_3 : (bI (k7 < (s.1 6) ∧ (32 : Int) ≤ (s.2 4) k7 ∧ (s.2 4) k7 ≤ (32 : Int))) = 0) (c_5 : (bI (k7 < (s.1 6) ∧ (10 : Int) ≤ (s.2 4) k7 ∧ (s.2 4) k7 ≤ (10 : Int))) = 0) (c_6 : ¬ k7 = (s.1 6)) (c_8 : (bI (k7 < (s.1 6) ∧ (97 : Int) ≤ (s.2 4) k7 ∧ (s.2 4) k7 ≤ (122 : Int))) = 0) (c_10 : (bI (k7 < (s.1 6) ∧ (48 : Int) ≤ (s.2 4) k7 ∧ (s.2 4) k7 ≤ (57 : Int))) = 0) (o_11 : (0 ≤ k7 ∧ k7 < 800)) (c_12 : ¬ (s.2 4 k7) = 59) : k7 = (plc (s.2 4) (s.1 6) (s.1 7)) := by
  (try simp only [bI_0, bI_n, Classical.not_not] at *)
  (try have hp7 : plc (s.2 4) (s.1 6) (s.1 7) = k7 := hI.2.symm.trans (adv_n (fun h => h.elim c_3 c_5)))
  (try have hk := tok_sign hp7 c_6 c_8 c_10)
  (try have he := tok_end hp7 c_6)
  (try have hw := tok_word hI.2.1 hI.2.2.1)
  (try have ha : adv (isB (s.2 4) (s.1 6) 97 122) k9 = k7 := hI.2.2.2.1.symm.trans (adv_n c_3))
  (try have hcb := cw_b (t := s.2 4) (q := k9) x1.toNat (by omega) (fun i a => hI.2.2.2.2.1 i (by omega)))
  (try have hcm : (27 : Int) ^ x1.toNat ≤ 5559060566555523 := Int.le_trans (pow_mono' (by omega) (n := 11) (by omega)) (by decide))
  (try have hn := tok_num hI.2.1 hI.2.2.1.1 hI.2.2.1.2)
  (try have ha : adv (isB (s.2 4) (s.1 6) 48 57) k9 = k7 := hI.2.2.2.1.symm.trans (adv_n c_3))
  (try have hcv := cv_b (t := s.2 4) (q := k9) (k7 - k9).toNat (fun i a => hI.2.2.2.2.1 i (by omega)))
  (try unfold lex3)
  (try simp only [bI_0, bI_n, Classical.not_not] at *)
  (try simp (disch := omega) only [i32_id] at *)
  first | done | omega | ((repeat' (with_reducible apply And.intro)) <;> first | assumption | rfl | omega | (rw [← hI.2]; exact (adv_y isWs_T (Or.inl c_3)).symm) | (rw [← hI.2]; exact (adv_y isWs_T (Or.inr c_5)).symm) | (exact hp7) | (exact hp7.symm) | (exact (hk.2.1 c_12).symm) | (exact (hk.1 c_12).symm) | (exact hk.2.2.1.symm) | (exact hk.2.2.2.2.symm) | (exact hk.2.2.2.1.symm) | (exact he.2.1.symm) | (exact he.1.symm) | (exact he.2.2.2.symm) | (exact he.2.2.1.symm) | (exact c_8) | (exact c_10) | (intro i hi; omega) | (rw [show (k7 - k7).toNat = 0 by omega]; rfl) | (exact hI.2.1) | (exact hI.2.1.symm) | (exact hI.2.2.1) | (exact hI.2.2.1.1) | (exact hI.2.2.1.2) | (rw [hw.2.1, ha]) | (rw [hw.1]; exact hI.2.2.2.2.2.1) | (rw [hw.2.2.2]; exact hI.2.2.2.2.2.2.1) | (rw [hw.2.2.1, ha, show k7 - k9 = x1 by omega]; exact hI.2.2.2.2.2.2.2) | (rw [hn.2.1, ha]) | (rw [hn.1]; exact hI.2.2.2.2.2.1) | (rw [hn.2.2.2]; exact hI.2.2.2.2.2.2.1) | (rw [hn.2.2.1, ha]; exact hI.2.2.2.2.2.2.2) | (rw [← hI.2.2.2.1]; exact (adv_y isB_T c_3).symm) | (intro i hi; by_cases e : (i : Int) = x1; (focus (rw [e, ← hI.1.2.1]; omega)); (focus (exact hI.2.2.2.2.1 i (by omega)))) | (intro i hi; by_cases e : (i : Int) = k7 - k9; (focus (rw [e, show k9 + (k7 - k9) = k7 by omega]; omega)); (focus (exact hI.2.2.2.2.1 i (by omega)))) | (rw [cw_s _ _ hI.1.1, if_neg (by omega), ← hI.2.2.2.2.2.2.2, ← hI.1.2.1, i64_id (x := 27 * k11) (by omega) (by omega), i64_id (x := 27 * k11 + s.2 4 k7) (by omega) (by omega), i64_id (by omega) (by omega)]) | (rw [cw_s _ _ hI.1.1, if_pos (by omega)]) | (rw [show k7 + 1 - k9 = (k7 - k9) + 1 by omega, cv_s _ _ (by omega), if_neg (by omega), ← hI.2.2.2.2.2.2.2, show k9 + (k7 - k9) = k7 by omega]) | (rw [show k7 + 1 - k9 = (k7 - k9) + 1 by omega, cv_s _ _ (by omega), if_pos (by omega)]) | grind [upI])
theorem vcX3_next_8 (s : MS) (hp : 0 ≤ (s.1 7) ∧ (s.1 7) ≤ (s.1 6) ∧ (s.1 6) ≤ 800) (k7 : Int) (k8 : Int) (k9 : Int) (k10 : Int) (k11 : Int) (hI : (0 ≤ k7 ∧ k7 ≤ s.1 6) ∧ plc (s.2 4) (s.1 6) k7 = plc (s.2 4) (s.1 6) (s.1 7)) (o_1 : (0 ≤ k7 ∧ (s.1 6) ≤ 800)) (c_3 : (bI (k7 < (s.1 6) ∧ (32 : Int) ≤ (s.2 4) k7 ∧ (s.2 4) k7 ≤ (32 : Int))) = 0) (c_5 : (bI (k7 < (s.1 6) ∧ (10 : Int) ≤ (s.2 4) k7 ∧ (s.2 4) k7 ≤ (10 : Int))) = 0) (c_6 : ¬ k7 = (s.1 6)) (c_8 : (bI (k7 < (s.1 6) ∧ (97 : Int) ≤ (s.2 4) k7 ∧ (s.2 4) k7 ≤ (122 : Int))) = 0) (c_10 : (bI (k7 < (s.1 6) ∧ (48 : Int) ≤ (s.2 4) k7 ∧ (s.2 4) k7 ≤ (57 : Int))) = 0) (o_11 : (0 ≤ k7 ∧ k7 < 800)) (c_12 : ¬ (s.2 4 k7) = 59) : 0 = (vlu (s.2 4) (s.1 6) (s.1 7)) := by
  (try simp only [bI_0, bI_n, Classical.not_not] at *)
  (try have hp7 : plc (s.2 4) (s.1 6) (s.1 7) = k7 := hI.2.symm.trans (adv_n (fun h => h.elim c_3 c_5)))
  (try have hk := tok_sign hp7 c_6 c_8 c_10)
  (try have he := tok_end hp7 c_6)
  (try have hw := tok_word hI.2.1 hI.2.2.1)
  (try have ha : adv (isB (s.2 4) (s.1 6) 97 122) k9 = k7 := hI.2.2.2.1.symm.trans (adv_n c_3))
  (try have hcb := cw_b (t := s.2 4) (q := k9) x1.toNat (by omega) (fun i a => hI.2.2.2.2.1 i (by omega)))
  (try have hcm : (27 : Int) ^ x1.toNat ≤ 5559060566555523 := Int.le_trans (pow_mono' (by omega) (n := 11) (by omega)) (by decide))
  (try have hn := tok_num hI.2.1 hI.2.2.1.1 hI.2.2.1.2)
  (try have ha : adv (isB (s.2 4) (s.1 6) 48 57) k9 = k7 := hI.2.2.2.1.symm.trans (adv_n c_3))
  (try have hcv := cv_b (t := s.2 4) (q := k9) (k7 - k9).toNat (fun i a => hI.2.2.2.2.1 i (by omega)))
  (try unfold lex3)
  (try simp only [bI_0, bI_n, Classical.not_not] at *)
  (try simp (disch := omega) only [i32_id] at *)
  first | done | omega | ((repeat' (with_reducible apply And.intro)) <;> first | assumption | rfl | omega | (rw [← hI.2]; exact (adv_y isWs_T (Or.inl c_3)).symm) | (rw [← hI.2]; exact (adv_y isWs_T (Or.inr c_5)).symm) | (exact hp7) | (exact hp7.symm) | (exact (hk.2.1 c_12).symm) | (exact (hk.1 c_12).symm) | (exact hk.2.2.1.symm) | (exact hk.2.2.2.2.symm) | (exact hk.2.2.2.1.symm) | (exact he.2.1.symm) | (exact he.1.symm) | (exact he.2.2.2.symm) | (exact he.2.2.1.symm) | (exact c_8) | (exact c_10) | (intro i hi; omega) | (rw [show (k7 - k7).toNat = 0 by omega]; rfl) | (exact hI.2.1) | (exact hI.2.1.symm) | (exact hI.2.2.1) | (exact hI.2.2.1.1) | (exact hI.2.2.1.2) | (rw [hw.2.1, ha]) | (rw [hw.1]; exact hI.2.2.2.2.2.1) | (rw [hw.2.2.2]; exact hI.2.2.2.2.2.2.1) | (rw [hw.2.2.1, ha, show k7 - k9 = x1 by omega]; exact hI.2.2.2.2.2.2.2) | (rw [hn.2.1, ha]) | (rw [hn.1]; exact hI.2.2.2.2.2.1) | (rw [hn.2.2.2]; exact hI.2.2.2.2.2.2.1) | (rw [hn.2.2.1, ha]; exact hI.2.2.2.2.2.2.2) | (rw [← hI.2.2.2.1]; exact (adv_y isB_T c_3).symm) | (intro i hi; by_cases e : (i : Int) = x1; (focus (rw [e, ← hI.1.2.1]; omega)); (focus (exact hI.2.2.2.2.1 i (by omega)))) | (intro i hi; by_cases e : (i : Int) = k7 - k9; (focus (rw [e, show k9 + (k7 - k9) = k7 by omega]; omega)); (focus (exact hI.2.2.2.2.1 i (by omega)))) | (rw [cw_s _ _ hI.1.1, if_neg (by omega), ← hI.2.2.2.2.2.2.2, ← hI.1.2.1, i64_id (x := 27 * k11) (by omega) (by omega), i64_id (x := 27 * k11 + s.2 4 k7) (by omega) (by omega), i64_id (by omega) (by omega)]) | (rw [cw_s _ _ hI.1.1, if_pos (by omega)]) | (rw [show k7 + 1 - k9 = (k7 - k9) + 1 by omega, cv_s _ _ (by omega), if_neg (by omega), ← hI.2.2.2.2.2.2.2, show k9 + (k7 - k9) = k7 by omega]) | (rw [show k7 + 1 - k9 = (k7 - k9) + 1 by omega, cv_s _ _ (by omega), if_pos (by omega)]) | grind [upI])
theorem vcX3_next_9 (s : MS) (hp : 0 ≤ (s.1 7) ∧ (s.1 7) ≤ (s.1 6) ∧ (s.1 6) ≤ 800) (k7 : Int) (k8 : Int) (k9 : Int) (k10 : Int) (k11 : Int) (hI : (0 ≤ k7 ∧ k7 ≤ s.1 6) ∧ plc (s.2 4) (s.1 6) k7 = plc (s.2 4) (s.1 6) (s.1 7)) (o_1 : (0 ≤ k7 ∧ (s.1 6) ≤ 800)) (c_3 : (bI (k7 < (s.1 6) ∧ (32 : Int) ≤ (s.2 4) k7 ∧ (s.2 4) k7 ≤ (32 : Int))) = 0) (c_5 : (bI (k7 < (s.1 6) ∧ (10 : Int) ≤ (s.2 4) k7 ∧ (s.2 4) k7 ≤ (10 : Int))) = 0) (c_6 : ¬ k7 = (s.1 6)) (c_8 : (bI (k7 < (s.1 6) ∧ (97 : Int) ≤ (s.2 4) k7 ∧ (s.2 4) k7 ≤ (122 : Int))) = 0) (c_10 : (bI (k7 < (s.1 6) ∧ (48 : Int) ≤ (s.2 4) k7 ∧ (s.2 4) k7 ≤ (57 : Int))) = 0) (o_11 : (0 ≤ k7 ∧ k7 < 800)) (c_12 : ¬ (s.2 4 k7) = 59) : 0 = (wrd (s.2 4) (s.1 6) (s.1 7)) := by
  (try simp only [bI_0, bI_n, Classical.not_not] at *)
  (try have hp7 : plc (s.2 4) (s.1 6) (s.1 7) = k7 := hI.2.symm.trans (adv_n (fun h => h.elim c_3 c_5)))
  (try have hk := tok_sign hp7 c_6 c_8 c_10)
  (try have he := tok_end hp7 c_6)
  (try have hw := tok_word hI.2.1 hI.2.2.1)
  (try have ha : adv (isB (s.2 4) (s.1 6) 97 122) k9 = k7 := hI.2.2.2.1.symm.trans (adv_n c_3))
  (try have hcb := cw_b (t := s.2 4) (q := k9) x1.toNat (by omega) (fun i a => hI.2.2.2.2.1 i (by omega)))
  (try have hcm : (27 : Int) ^ x1.toNat ≤ 5559060566555523 := Int.le_trans (pow_mono' (by omega) (n := 11) (by omega)) (by decide))
  (try have hn := tok_num hI.2.1 hI.2.2.1.1 hI.2.2.1.2)
  (try have ha : adv (isB (s.2 4) (s.1 6) 48 57) k9 = k7 := hI.2.2.2.1.symm.trans (adv_n c_3))
  (try have hcv := cv_b (t := s.2 4) (q := k9) (k7 - k9).toNat (fun i a => hI.2.2.2.2.1 i (by omega)))
  (try unfold lex3)
  (try simp only [bI_0, bI_n, Classical.not_not] at *)
  (try simp (disch := omega) only [i32_id] at *)
  first | done | omega | ((repeat' (with_reducible apply And.intro)) <;> first | assumption | rfl | omega | (rw [← hI.2]; exact (adv_y isWs_T (Or.inl c_3)).symm) | (rw [← hI.2]; exact (adv_y isWs_T (Or.inr c_5)).symm) | (exact hp7) | (exact hp7.symm) | (exact (hk.2.1 c_12).symm) | (exact (hk.1 c_12).symm) | (exact hk.2.2.1.symm) | (exact hk.2.2.2.2.symm) | (exact hk.2.2.2.1.symm) | (exact he.2.1.symm) | (exact he.1.symm) | (exact he.2.2.2.symm) | (exact he.2.2.1.symm) | (exact c_8) | (exact c_10) | (intro i hi; omega) | (rw [show (k7 - k7).toNat = 0 by omega]; rfl) | (exact hI.2.1) | (exact hI.2.1.symm) | (exact hI.2.2.1) | (exact hI.2.2.1.1) | (exact hI.2.2.1.2) | (rw [hw.2.1, ha]) | (rw [hw.1]; exact hI.2.2.2.2.2.1) | (rw [hw.2.2.2]; exact hI.2.2.2.2.2.2.1) | (rw [hw.2.2.1, ha, show k7 - k9 = x1 by omega]; exact hI.2.2.2.2.2.2.2) | (rw [hn.2.1, ha]) | (rw [hn.1]; exact hI.2.2.2.2.2.1) | (rw [hn.2.2.2]; exact hI.2.2.2.2.2.2.1) | (rw [hn.2.2.1, ha]; exact hI.2.2.2.2.2.2.2) | (rw [← hI.2.2.2.1]; exact (adv_y isB_T c_3).symm) | (intro i hi; by_cases e : (i : Int) = x1; (focus (rw [e, ← hI.1.2.1]; omega)); (focus (exact hI.2.2.2.2.1 i (by omega)))) | (intro i hi; by_cases e : (i : Int) = k7 - k9; (focus (rw [e, show k9 + (k7 - k9) = k7 by omega]; omega)); (focus (exact hI.2.2.2.2.1 i (by omega)))) | (rw [cw_s _ _ hI.1.1, if_neg (by omega), ← hI.2.2.2.2.2.2.2, ← hI.1.2.1, i64_id (x := 27 * k11) (by omega) (by omega), i64_id (x := 27 * k11 + s.2 4 k7) (by omega) (by omega), i64_id (by omega) (by omega)]) | (rw [cw_s _ _ hI.1.1, if_pos (by omega)]) | (rw [show k7 + 1 - k9 = (k7 - k9) + 1 by omega, cv_s _ _ (by omega), if_neg (by omega), ← hI.2.2.2.2.2.2.2, show k9 + (k7 - k9) = k7 by omega]) | (rw [show k7 + 1 - k9 = (k7 - k9) + 1 by omega, cv_s _ _ (by omega), if_pos (by omega)]) | grind [upI])
theorem vcX3_next_10 (s : MS) (hp : 0 ≤ (s.1 7) ∧ (s.1 7) ≤ (s.1 6) ∧ (s.1 6) ≤ 800) (k7 : Int) (k8 : Int) (k9 : Int) (k10 : Int) (k11 : Int) (hI : (0 ≤ k7 ∧ k7 ≤ s.1 6) ∧ plc (s.2 4) (s.1 6) k7 = plc (s.2 4) (s.1 6) (s.1 7)) (o_1 : (0 ≤ k7 ∧ (s.1 6) ≤ 800)) (c_3 : (bI (k7 < (s.1 6) ∧ (32 : Int) ≤ (s.2 4) k7 ∧ (s.2 4) k7 ≤ (32 : Int))) = 0) (c_5 : (bI (k7 < (s.1 6) ∧ (10 : Int) ≤ (s.2 4) k7 ∧ (s.2 4) k7 ≤ (10 : Int))) = 0) (c_6 : ¬ k7 = (s.1 6)) (c_8 : (bI (k7 < (s.1 6) ∧ (97 : Int) ≤ (s.2 4) k7 ∧ (s.2 4) k7 ≤ (122 : Int))) = 0) (c_10 : (bI (k7 < (s.1 6) ∧ (48 : Int) ≤ (s.2 4) k7 ∧ (s.2 4) k7 ≤ (57 : Int))) = 0) (o_11 : (0 ≤ k7 ∧ k7 < 800)) (c_12 : (s.2 4 k7) = 59) : (i32 (k7 + 1)) = (enx (s.2 4) (s.1 6) (s.1 7)) := by
  (try simp only [bI_0, bI_n, Classical.not_not] at *)
  (try have hp7 : plc (s.2 4) (s.1 6) (s.1 7) = k7 := hI.2.symm.trans (adv_n (fun h => h.elim c_3 c_5)))
  (try have hk := tok_sign hp7 c_6 c_8 c_10)
  (try have he := tok_end hp7 c_6)
  (try have hw := tok_word hI.2.1 hI.2.2.1)
  (try have ha : adv (isB (s.2 4) (s.1 6) 97 122) k9 = k7 := hI.2.2.2.1.symm.trans (adv_n c_3))
  (try have hcb := cw_b (t := s.2 4) (q := k9) x1.toNat (by omega) (fun i a => hI.2.2.2.2.1 i (by omega)))
  (try have hcm : (27 : Int) ^ x1.toNat ≤ 5559060566555523 := Int.le_trans (pow_mono' (by omega) (n := 11) (by omega)) (by decide))
  (try have hn := tok_num hI.2.1 hI.2.2.1.1 hI.2.2.1.2)
  (try have ha : adv (isB (s.2 4) (s.1 6) 48 57) k9 = k7 := hI.2.2.2.1.symm.trans (adv_n c_3))
  (try have hcv := cv_b (t := s.2 4) (q := k9) (k7 - k9).toNat (fun i a => hI.2.2.2.2.1 i (by omega)))
  (try unfold lex3)
  (try simp only [bI_0, bI_n, Classical.not_not] at *)
  (try simp (disch := omega) only [i32_id] at *)
  first | done | omega | ((repeat' (with_reducible apply And.intro)) <;> first | assumption | rfl | omega | (rw [← hI.2]; exact (adv_y isWs_T (Or.inl c_3)).symm) | (rw [← hI.2]; exact (adv_y isWs_T (Or.inr c_5)).symm) | (exact hp7) | (exact hp7.symm) | (exact (hk.2.1 c_12).symm) | (exact (hk.1 c_12).symm) | (exact hk.2.2.1.symm) | (exact hk.2.2.2.2.symm) | (exact hk.2.2.2.1.symm) | (exact he.2.1.symm) | (exact he.1.symm) | (exact he.2.2.2.symm) | (exact he.2.2.1.symm) | (exact c_8) | (exact c_10) | (intro i hi; omega) | (rw [show (k7 - k7).toNat = 0 by omega]; rfl) | (exact hI.2.1) | (exact hI.2.1.symm) | (exact hI.2.2.1) | (exact hI.2.2.1.1) | (exact hI.2.2.1.2) | (rw [hw.2.1, ha]) | (rw [hw.1]; exact hI.2.2.2.2.2.1) | (rw [hw.2.2.2]; exact hI.2.2.2.2.2.2.1) | (rw [hw.2.2.1, ha, show k7 - k9 = x1 by omega]; exact hI.2.2.2.2.2.2.2) | (rw [hn.2.1, ha]) | (rw [hn.1]; exact hI.2.2.2.2.2.1) | (rw [hn.2.2.2]; exact hI.2.2.2.2.2.2.1) | (rw [hn.2.2.1, ha]; exact hI.2.2.2.2.2.2.2) | (rw [← hI.2.2.2.1]; exact (adv_y isB_T c_3).symm) | (intro i hi; by_cases e : (i : Int) = x1; (focus (rw [e, ← hI.1.2.1]; omega)); (focus (exact hI.2.2.2.2.1 i (by omega)))) | (intro i hi; by_cases e : (i : Int) = k7 - k9; (focus (rw [e, show k9 + (k7 - k9) = k7 by omega]; omega)); (focus (exact hI.2.2.2.2.1 i (by omega)))) | (rw [cw_s _ _ hI.1.1, if_neg (by omega), ← hI.2.2.2.2.2.2.2, ← hI.1.2.1, i64_id (x := 27 * k11) (by omega) (by omega), i64_id (x := 27 * k11 + s.2 4 k7) (by omega) (by omega), i64_id (by omega) (by omega)]) | (rw [cw_s _ _ hI.1.1, if_pos (by omega)]) | (rw [show k7 + 1 - k9 = (k7 - k9) + 1 by omega, cv_s _ _ (by omega), if_neg (by omega), ← hI.2.2.2.2.2.2.2, show k9 + (k7 - k9) = k7 by omega]) | (rw [show k7 + 1 - k9 = (k7 - k9) + 1 by omega, cv_s _ _ (by omega), if_pos (by omega)]) | grind [upI])
theorem vcX3_next_11 (s : MS) (hp : 0 ≤ (s.1 7) ∧ (s.1 7) ≤ (s.1 6) ∧ (s.1 6) ≤ 800) (k7 : Int) (k8 : Int) (k9 : Int) (k10 : Int) (k11 : Int) (hI : (0 ≤ k7 ∧ k7 ≤ s.1 6) ∧ plc (s.2 4) (s.1 6) k7 = plc (s.2 4) (s.1 6) (s.1 7)) (o_1 : (0 ≤ k7 ∧ (s.1 6) ≤ 800)) (c_3 : (bI (k7 < (s.1 6) ∧ (32 : Int) ≤ (s.2 4) k7 ∧ (s.2 4) k7 ≤ (32 : Int))) = 0) (c_5 : (bI (k7 < (s.1 6) ∧ (10 : Int) ≤ (s.2 4) k7 ∧ (s.2 4) k7 ≤ (10 : Int))) = 0) (c_6 : ¬ k7 = (s.1 6)) (c_8 : (bI (k7 < (s.1 6) ∧ (97 : Int) ≤ (s.2 4) k7 ∧ (s.2 4) k7 ≤ (122 : Int))) = 0) (c_10 : (bI (k7 < (s.1 6) ∧ (48 : Int) ≤ (s.2 4) k7 ∧ (s.2 4) k7 ≤ (57 : Int))) = 0) (o_11 : (0 ≤ k7 ∧ k7 < 800)) (c_12 : (s.2 4 k7) = 59) : 3 = (knd (s.2 4) (s.1 6) (s.1 7)) := by
  (try simp only [bI_0, bI_n, Classical.not_not] at *)
  (try have hp7 : plc (s.2 4) (s.1 6) (s.1 7) = k7 := hI.2.symm.trans (adv_n (fun h => h.elim c_3 c_5)))
  (try have hk := tok_sign hp7 c_6 c_8 c_10)
  (try have he := tok_end hp7 c_6)
  (try have hw := tok_word hI.2.1 hI.2.2.1)
  (try have ha : adv (isB (s.2 4) (s.1 6) 97 122) k9 = k7 := hI.2.2.2.1.symm.trans (adv_n c_3))
  (try have hcb := cw_b (t := s.2 4) (q := k9) x1.toNat (by omega) (fun i a => hI.2.2.2.2.1 i (by omega)))
  (try have hcm : (27 : Int) ^ x1.toNat ≤ 5559060566555523 := Int.le_trans (pow_mono' (by omega) (n := 11) (by omega)) (by decide))
  (try have hn := tok_num hI.2.1 hI.2.2.1.1 hI.2.2.1.2)
  (try have ha : adv (isB (s.2 4) (s.1 6) 48 57) k9 = k7 := hI.2.2.2.1.symm.trans (adv_n c_3))
  (try have hcv := cv_b (t := s.2 4) (q := k9) (k7 - k9).toNat (fun i a => hI.2.2.2.2.1 i (by omega)))
  (try unfold lex3)
  (try simp only [bI_0, bI_n, Classical.not_not] at *)
  (try simp (disch := omega) only [i32_id] at *)
  first | done | omega | ((repeat' (with_reducible apply And.intro)) <;> first | assumption | rfl | omega | (rw [← hI.2]; exact (adv_y isWs_T (Or.inl c_3)).symm) | (rw [← hI.2]; exact (adv_y isWs_T (Or.inr c_5)).symm) | (exact hp7) | (exact hp7.symm) | (exact (hk.2.1 c_12).symm) | (exact (hk.1 c_12).symm) | (exact hk.2.2.1.symm) | (exact hk.2.2.2.2.symm) | (exact hk.2.2.2.1.symm) | (exact he.2.1.symm) | (exact he.1.symm) | (exact he.2.2.2.symm) | (exact he.2.2.1.symm) | (exact c_8) | (exact c_10) | (intro i hi; omega) | (rw [show (k7 - k7).toNat = 0 by omega]; rfl) | (exact hI.2.1) | (exact hI.2.1.symm) | (exact hI.2.2.1) | (exact hI.2.2.1.1) | (exact hI.2.2.1.2) | (rw [hw.2.1, ha]) | (rw [hw.1]; exact hI.2.2.2.2.2.1) | (rw [hw.2.2.2]; exact hI.2.2.2.2.2.2.1) | (rw [hw.2.2.1, ha, show k7 - k9 = x1 by omega]; exact hI.2.2.2.2.2.2.2) | (rw [hn.2.1, ha]) | (rw [hn.1]; exact hI.2.2.2.2.2.1) | (rw [hn.2.2.2]; exact hI.2.2.2.2.2.2.1) | (rw [hn.2.2.1, ha]; exact hI.2.2.2.2.2.2.2) | (rw [← hI.2.2.2.1]; exact (adv_y isB_T c_3).symm) | (intro i hi; by_cases e : (i : Int) = x1; (focus (rw [e, ← hI.1.2.1]; omega)); (focus (exact hI.2.2.2.2.1 i (by omega)))) | (intro i hi; by_cases e : (i : Int) = k7 - k9; (focus (rw [e, show k9 + (k7 - k9) = k7 by omega]; omega)); (focus (exact hI.2.2.2.2.1 i (by omega)))) | (rw [cw_s _ _ hI.1.1, if_neg (by omega), ← hI.2.2.2.2.2.2.2, ← hI.1.2.1, i64_id (x := 27 * k11) (by omega) (by omega), i64_id (x := 27 * k11 + s.2 4 k7) (by omega) (by omega), i64_id (by omega) (by omega)]) | (rw [cw_s _ _ hI.1.1, if_pos (by omega)]) | (rw [show k7 + 1 - k9 = (k7 - k9) + 1 by omega, cv_s _ _ (by omega), if_neg (by omega), ← hI.2.2.2.2.2.2.2, show k9 + (k7 - k9) = k7 by omega]) | (rw [show k7 + 1 - k9 = (k7 - k9) + 1 by omega, cv_s _ _ (by omega), if_pos (by omega)]) | grind [upI])
theorem vcX3_next_12 (s : MS) (hp : 0 ≤ (s.1 7) ∧ (s.1 7) ≤ (s.1 6) ∧ (s.1 6) ≤ 800) (k7 : Int) (k8 : Int) (k9 : Int) (k10 : Int) (k11 : Int) (hI : (0 ≤ k7 ∧ k7 ≤ s.1 6) ∧ plc (s.2 4) (s.1 6) k7 = plc (s.2 4) (s.1 6) (s.1 7)) (o_1 : (0 ≤ k7 ∧ (s.1 6) ≤ 800)) (c_3 : (bI (k7 < (s.1 6) ∧ (32 : Int) ≤ (s.2 4) k7 ∧ (s.2 4) k7 ≤ (32 : Int))) = 0) (c_5 : (bI (k7 < (s.1 6) ∧ (10 : Int) ≤ (s.2 4) k7 ∧ (s.2 4) k7 ≤ (10 : Int))) = 0) (c_6 : ¬ k7 = (s.1 6)) (c_8 : (bI (k7 < (s.1 6) ∧ (97 : Int) ≤ (s.2 4) k7 ∧ (s.2 4) k7 ≤ (122 : Int))) = 0) (c_10 : (bI (k7 < (s.1 6) ∧ (48 : Int) ≤ (s.2 4) k7 ∧ (s.2 4) k7 ≤ (57 : Int))) = 0) (o_11 : (0 ≤ k7 ∧ k7 < 800)) (c_12 : (s.2 4 k7) = 59) : k7 = (plc (s.2 4) (s.1 6) (s.1 7)) := by
  (try simp only [bI_0, bI_n, Classical.not_not] at *)
  (try have hp7 : plc (s.2 4) (s.1 6) (s.1 7) = k7 := hI.2.symm.trans (adv_n (fun h => h.elim c_3 c_5)))
  (try have hk := tok_sign hp7 c_6 c_8 c_10)
  (try have he := tok_end hp7 c_6)
  (try have hw := tok_word hI.2.1 hI.2.2.1)
  (try have ha : adv (isB (s.2 4) (s.1 6) 97 122) k9 = k7 := hI.2.2.2.1.symm.trans (adv_n c_3))
  (try have hcb := cw_b (t := s.2 4) (q := k9) x1.toNat (by omega) (fun i a => hI.2.2.2.2.1 i (by omega)))
  (try have hcm : (27 : Int) ^ x1.toNat ≤ 5559060566555523 := Int.le_trans (pow_mono' (by omega) (n := 11) (by omega)) (by decide))
  (try have hn := tok_num hI.2.1 hI.2.2.1.1 hI.2.2.1.2)
  (try have ha : adv (isB (s.2 4) (s.1 6) 48 57) k9 = k7 := hI.2.2.2.1.symm.trans (adv_n c_3))
  (try have hcv := cv_b (t := s.2 4) (q := k9) (k7 - k9).toNat (fun i a => hI.2.2.2.2.1 i (by omega)))
  (try unfold lex3)
  (try simp only [bI_0, bI_n, Classical.not_not] at *)
  (try simp (disch := omega) only [i32_id] at *)
  first | done | omega | ((repeat' (with_reducible apply And.intro)) <;> first | assumption | rfl | omega | (rw [← hI.2]; exact (adv_y isWs_T (Or.inl c_3)).symm) | (rw [← hI.2]; exact (adv_y isWs_T (Or.inr c_5)).symm) | (exact hp7) | (exact hp7.symm) | (exact (hk.2.1 c_12).symm) | (exact (hk.1 c_12).symm) | (exact hk.2.2.1.symm) | (exact hk.2.2.2.2.symm) | (exact hk.2.2.2.1.symm) | (exact he.2.1.symm) | (exact he.1.symm) | (exact he.2.2.2.symm) | (exact he.2.2.1.symm) | (exact c_8) | (exact c_10) | (intro i hi; omega) | (rw [show (k7 - k7).toNat = 0 by omega]; rfl) | (exact hI.2.1) | (exact hI.2.1.symm) | (exact hI.2.2.1) | (exact hI.2.2.1.1) | (exact hI.2.2.1.2) | (rw [hw.2.1, ha]) | (rw [hw.1]; exact hI.2.2.2.2.2.1) | (rw [hw.2.2.2]; exact hI.2.2.2.2.2.2.1) | (rw [hw.2.2.1, ha, show k7 - k9 = x1 by omega]; exact hI.2.2.2.2.2.2.2) | (rw [hn.2.1, ha]) | (rw [hn.1]; exact hI.2.2.2.2.2.1) | (rw [hn.2.2.2]; exact hI.2.2.2.2.2.2.1) | (rw [hn.2.2.1, ha]; exact hI.2.2.2.2.2.2.2) | (rw [← hI.2.2.2.1]; exact (adv_y isB_T c_3).symm) | (intro i hi; by_cases e : (i : Int) = x1; (focus (rw [e, ← hI.1.2.1]; omega)); (focus (exact hI.2.2.2.2.1 i (by omega)))) | (intro i hi; by_cases e : (i : Int) = k7 - k9; (focus (rw [e, show k9 + (k7 - k9) = k7 by omega]; omega)); (focus (exact hI.2.2.2.2.1 i (by omega)))) | (rw [cw_s _ _ hI.1.1, if_neg (by omega), ← hI.2.2.2.2.2.2.2, ← hI.1.2.1, i64_id (x := 27 * k11) (by omega) (by omega), i64_id (x := 27 * k11 + s.2 4 k7) (by omega) (by omega), i64_id (by omega) (by omega)]) | (rw [cw_s _ _ hI.1.1, if_pos (by omega)]) | (rw [show k7 + 1 - k9 = (k7 - k9) + 1 by omega, cv_s _ _ (by omega), if_neg (by omega), ← hI.2.2.2.2.2.2.2, show k9 + (k7 - k9) = k7 by omega]) | (rw [show k7 + 1 - k9 = (k7 - k9) + 1 by omega, cv_s _ _ (by omega), if_pos (by omega)]) | grind [upI])
theorem vcX3_next_13 (s : MS) (hp : 0 ≤ (s.1 7) ∧ (s.1 7) ≤ (s.1 6) ∧ (s.1 6) ≤ 800) (k7 : Int) (k8 : Int) (k9 : Int) (k10 : Int) (k11 : Int) (hI : (0 ≤ k7 ∧ k7 ≤ s.1 6) ∧ plc (s.2 4) (s.1 6) k7 = plc (s.2 4) (s.1 6) (s.1 7)) (o_1 : (0 ≤ k7 ∧ (s.1 6) ≤ 800)) (c_3 : (bI (k7 < (s.1 6) ∧ (32 : Int) ≤ (s.2 4) k7 ∧ (s.2 4) k7 ≤ (32 : Int))) = 0) (c_5 : (bI (k7 < (s.1 6) ∧ (10 : Int) ≤ (s.2 4) k7 ∧ (s.2 4) k7 ≤ (10 : Int))) = 0) (c_6 : ¬ k7 = (s.1 6)) (c_8 : (bI (k7 < (s.1 6) ∧ (97 : Int) ≤ (s.2 4) k7 ∧ (s.2 4) k7 ≤ (122 : Int))) = 0) (c_10 : (bI (k7 < (s.1 6) ∧ (48 : Int) ≤ (s.2 4) k7 ∧ (s.2 4) k7 ≤ (57 : Int))) = 0) (o_11 : (0 ≤ k7 ∧ k7 < 800)) (c_12 : (s.2 4 k7) = 59) : 0 = (vlu (s.2 4) (s.1 6) (s.1 7)) := by
  (try simp only [bI_0, bI_n, Classical.not_not] at *)
  (try have hp7 : plc (s.2 4) (s.1 6) (s.1 7) = k7 := hI.2.symm.trans (adv_n (fun h => h.elim c_3 c_5)))
  (try have hk := tok_sign hp7 c_6 c_8 c_10)
  (try have he := tok_end hp7 c_6)
  (try have hw := tok_word hI.2.1 hI.2.2.1)
  (try have ha : adv (isB (s.2 4) (s.1 6) 97 122) k9 = k7 := hI.2.2.2.1.symm.trans (adv_n c_3))
  (try have hcb := cw_b (t := s.2 4) (q := k9) x1.toNat (by omega) (fun i a => hI.2.2.2.2.1 i (by omega)))
  (try have hcm : (27 : Int) ^ x1.toNat ≤ 5559060566555523 := Int.le_trans (pow_mono' (by omega) (n := 11) (by omega)) (by decide))
  (try have hn := tok_num hI.2.1 hI.2.2.1.1 hI.2.2.1.2)
  (try have ha : adv (isB (s.2 4) (s.1 6) 48 57) k9 = k7 := hI.2.2.2.1.symm.trans (adv_n c_3))
  (try have hcv := cv_b (t := s.2 4) (q := k9) (k7 - k9).toNat (fun i a => hI.2.2.2.2.1 i (by omega)))
  (try unfold lex3)
  (try simp only [bI_0, bI_n, Classical.not_not] at *)
  (try simp (disch := omega) only [i32_id] at *)
  first | done | omega | ((repeat' (with_reducible apply And.intro)) <;> first | assumption | rfl | omega | (rw [← hI.2]; exact (adv_y isWs_T (Or.inl c_3)).symm) | (rw [← hI.2]; exact (adv_y isWs_T (Or.inr c_5)).symm) | (exact hp7) | (exact hp7.symm) | (exact (hk.2.1 c_12).symm) | (exact (hk.1 c_12).symm) | (exact hk.2.2.1.symm) | (exact hk.2.2.2.2.symm) | (exact hk.2.2.2.1.symm) | (exact he.2.1.symm) | (exact he.1.symm) | (exact he.2.2.2.symm) | (exact he.2.2.1.symm) | (exact c_8) | (exact c_10) | (intro i hi; omega) | (rw [show (k7 - k7).toNat = 0 by omega]; rfl) | (exact hI.2.1) | (exact hI.2.1.symm) | (exact hI.2.2.1) | (exact hI.2.2.1.1) | (exact hI.2.2.1.2) | (rw [hw.2.1, ha]) | (rw [hw.1]; exact hI.2.2.2.2.2.1) | (rw [hw.2.2.2]; exact hI.2.2.2.2.2.2.1) | (rw [hw.2.2.1, ha, show k7 - k9 = x1 by omega]; exact hI.2.2.2.2.2.2.2) | (rw [hn.2.1, ha]) | (rw [hn.1]; exact hI.2.2.2.2.2.1) | (rw [hn.2.2.2]; exact hI.2.2.2.2.2.2.1) | (rw [hn.2.2.1, ha]; exact hI.2.2.2.2.2.2.2) | (rw [← hI.2.2.2.1]; exact (adv_y isB_T c_3).symm) | (intro i hi; by_cases e : (i : Int) = x1; (focus (rw [e, ← hI.1.2.1]; omega)); (focus (exact hI.2.2.2.2.1 i (by omega)))) | (intro i hi; by_cases e : (i : Int) = k7 - k9; (focus (rw [e, show k9 + (k7 - k9) = k7 by omega]; omega)); (focus (exact hI.2.2.2.2.1 i (by omega)))) | (rw [cw_s _ _ hI.1.1, if_neg (by omega), ← hI.2.2.2.2.2.2.2, ← hI.1.2.1, i64_id (x := 27 * k11) (by omega) (by omega), i64_id (x := 27 * k11 + s.2 4 k7) (by omega) (by omega), i64_id (by omega) (by omega)]) | (rw [cw_s _ _ hI.1.1, if_pos (by omega)]) | (rw [show k7 + 1 - k9 = (k7 - k9) + 1 by omega, cv_s _ _ (by omega), if_neg (by omega), ← hI.2.2.2.2.2.2.2, show k9 + (k7 - k9) = k7 by omega]) | (rw [show k7 + 1 - k9 = (k7 - k9) + 1 by omega, cv_s _ _ (by omega), if_pos (by omega)]) | grind [upI])
theorem vcX3_next_14 (s : MS) (hp : 0 ≤ (s.1 7) ∧ (s.1 7) ≤ (s.1 6) ∧ (s.1 6) ≤ 800) (k7 : Int) (k8 : Int) (k9 : Int) (k10 : Int) (k11 : Int) (hI : (0 ≤ k7 ∧ k7 ≤ s.1 6) ∧ plc (s.2 4) (s.1 6) k7 = plc (s.2 4) (s.1 6) (s.1 7)) (o_1 : (0 ≤ k7 ∧ (s.1 6) ≤ 800)) (c_3 : (bI (k7 < (s.1 6) ∧ (32 : Int) ≤ (s.2 4) k7 ∧ (s.2 4) k7 ≤ (32 : Int))) = 0) (c_5 : (bI (k7 < (s.1 6) ∧ (10 : Int) ≤ (s.2 4) k7 ∧ (s.2 4) k7 ≤ (10 : Int))) = 0) (c_6 : ¬ k7 = (s.1 6)) (c_8 : (bI (k7 < (s.1 6) ∧ (97 : Int) ≤ (s.2 4) k7 ∧ (s.2 4) k7 ≤ (122 : Int))) = 0) (c_10 : (bI (k7 < (s.1 6) ∧ (48 : Int) ≤ (s.2 4) k7 ∧ (s.2 4) k7 ≤ (57 : Int))) = 0) (o_11 : (0 ≤ k7 ∧ k7 < 800)) (c_12 : (s.2 4 k7) = 59) : 0 = (wrd (s.2 4) (s.1 6) (s.1 7)) := by
  (try simp only [bI_0, bI_n, Classical.not_not] at *)
  (try have hp7 : plc (s.2 4) (s.1 6) (s.1 7) = k7 := hI.2.symm.trans (adv_n (fun h => h.elim c_3 c_5)))
  (try have hk := tok_sign hp7 c_6 c_8 c_10)
  (try have he := tok_end hp7 c_6)
  (try have hw := tok_word hI.2.1 hI.2.2.1)
  (try have ha : adv (isB (s.2 4) (s.1 6) 97 122) k9 = k7 := hI.2.2.2.1.symm.trans (adv_n c_3))
  (try have hcb := cw_b (t := s.2 4) (q := k9) x1.toNat (by omega) (fun i a => hI.2.2.2.2.1 i (by omega)))
  (try have hcm : (27 : Int) ^ x1.toNat ≤ 5559060566555523 := Int.le_trans (pow_mono' (by omega) (n := 11) (by omega)) (by decide))
  (try have hn := tok_num hI.2.1 hI.2.2.1.1 hI.2.2.1.2)
  (try have ha : adv (isB (s.2 4) (s.1 6) 48 57) k9 = k7 := hI.2.2.2.1.symm.trans (adv_n c_3))
  (try have hcv := cv_b (t := s.2 4) (q := k9) (k7 - k9).toNat (fun i a => hI.2.2.2.2.1 i (by omega)))
  (try unfold lex3)
  (try simp only [bI_0, bI_n, Classical.not_not] at *)
  (try simp (disch := omega) only [i32_id] at *)
  first | done | omega | ((repeat' (with_reducible apply And.intro)) <;> first | assumption | rfl | omega | (rw [← hI.2]; exact (adv_y isWs_T (Or.inl c_3)).symm) | (rw [← hI.2]; exact (adv_y isWs_T (Or.inr c_5)).symm) | (exact hp7) | (exact hp7.symm) | (exact (hk.2.1 c_12).symm) | (exact (hk.1 c_12).symm) | (exact hk.2.2.1.symm) | (exact hk.2.2.2.2.symm) | (exact hk.2.2.2.1.symm) | (exact he.2.1.symm) | (exact he.1.symm) | (exact he.2.2.2.symm) | (exact he.2.2.1.symm) | (exact c_8) | (exact c_10) | (intro i hi; omega) | (rw [show (k7 - k7).toNat = 0 by omega]; rfl) | (exact hI.2.1) | (exact hI.2.1.symm) | (exact hI.2.2.1) | (exact hI.2.2.1.1) | (exact hI.2.2.1.2) | (rw [hw.2.1, ha]) | (rw [hw.1]; exact hI.2.2.2.2.2.1) | (rw [hw.2.2.2]; exact hI.2.2.2.2.2.2.1) | (rw [hw.2.2.1, ha, show k7 - k9 = x1 by omega]; exact hI.2.2.2.2.2.2.2) | (rw [hn.2.1, ha]) | (rw [hn.1]; exact hI.2.2.2.2.2.1) | (rw [hn.2.2.2]; exact hI.2.2.2.2.2.2.1) | (rw [hn.2.2.1, ha]; exact hI.2.2.2.2.2.2.2) | (rw [← hI.2.2.2.1]; exact (adv_y isB_T c_3).symm) | (intro i hi; by_cases e : (i : Int) = x1; (focus (rw [e, ← hI.1.2.1]; omega)); (focus (exact hI.2.2.2.2.1 i (by omega)))) | (intro i hi; by_cases e : (i : Int) = k7 - k9; (focus (rw [e, show k9 + (k7 - k9) = k7 by omega]; omega)); (focus (exact hI.2.2.2.2.1 i (by omega)))) | (rw [cw_s _ _ hI.1.1, if_neg (by omega), ← hI.2.2.2.2.2.2.2, ← hI.1.2.1, i64_id (x := 27 * k11) (by omega) (by omega), i64_id (x := 27 * k11 + s.2 4 k7) (by omega) (by omega), i64_id (by omega) (by omega)]) | (rw [cw_s _ _ hI.1.1, if_pos (by omega)]) | (rw [show k7 + 1 - k9 = (k7 - k9) + 1 by omega, cv_s _ _ (by omega), if_neg (by omega), ← hI.2.2.2.2.2.2.2, show k9 + (k7 - k9) = k7 by omega]) | (rw [show k7 + 1 - k9 = (k7 - k9) + 1 by omega, cv_s _ _ (by omega), if_pos (by omega)]) | grind [upI])
theorem vcX3_next_15 (s : MS) (hp : 0 ≤ (s.1 7) ∧ (s.1 7) ≤ (s.1 6) ∧ (s.1 6) ≤ 800) (k7 : Int) (k8 : Int) (k9 : Int) (k10 : Int) (k11 : Int) (hI : (0 ≤ k7 ∧ k7 ≤ s.1 6) ∧ plc (s.2 4) (s.1 6) k7 = plc (s.2 4) (s.1 6) (s.1 7)) (o_1 : (0 ≤ k7 ∧ (s.1 6) ≤ 800)) (c_3 : (bI (k7 < (s.1 6) ∧ (32 : Int) ≤ (s.2 4) k7 ∧ (s.2 4) k7 ≤ (32 : Int))) = 0) (c_5 : (bI (k7 < (s.1 6) ∧ (10 : Int) ≤ (s.2 4) k7 ∧ (s.2 4) k7 ≤ (10 : Int))) = 0) (c_6 : ¬ k7 = (s.1 6)) (c_8 : (bI (k7 < (s.1 6) ∧ (97 : Int) ≤ (s.2 4) k7 ∧ (s.2 4) k7 ≤ (122 : Int))) = 0) (c_10 : ¬ (bI (k7 < (s.1 6) ∧ (48 : Int) ≤ (s.2 4) k7 ∧ (s.2 4) k7 ≤ (57 : Int))) = 0) : (k7 ≤ k7 ∧ k7 ≤ s.1 6 ∧ 0 ≤ k7) ∧ plc (s.2 4) (s.1 6) (s.1 7) = k7 ∧ (¬ isB (s.2 4) (s.1 6) 97 122 k7 ∧ isB (s.2 4) (s.1 6) 48 57 k7) ∧ adv (isB (s.2 4) (s.1 6) 48 57) k7 = adv (isB (s.2 4) (s.1 6) 48 57) k7 ∧ (∀ i : Nat, i < k7 - k7 → 48 ≤ s.2 4 (k7 + i) ∧ s.2 4 (k7 + i) ≤ 57) ∧ (2 : Int) = 2 ∧ (0 : Int) = 0 ∧ (0 : Int) = cv (s.2 4) k7 (k7 - k7).toNat := by
  (try simp only [bI_0, bI_n, Classical.not_not] at *)
  (try have hp7 : plc (s.2 4) (s.1 6) (s.1 7) = k7 := hI.2.symm.trans (adv_n (fun h => h.elim c_3 c_5)))
  (try have hk := tok_sign hp7 c_6 c_8 c_10)
  (try have he := tok_end hp7 c_6)
  (try have hw := tok_word hI.2.1 hI.2.2.1)
  (try have ha : adv (isB (s.2 4) (s.1 6) 97 122) k9 = k7 := hI.2.2.2.1.symm.trans (adv_n c_3))
  (try have hcb := cw_b (t := s.2 4) (q := k9) x1.toNat (by omega) (fun i a => hI.2.2.2.2.1 i (by omega)))
  (try have hcm : (27 : Int) ^ x1.toNat ≤ 5559060566555523 := Int.le_trans (pow_mono' (by omega) (n := 11) (by omega)) (by decide))
  (try have hn := tok_num hI.2.1 hI.2.2.1.1 hI.2.2.1.2)
  (try have ha : adv (isB (s.2 4) (s.1 6) 48 57) k9 = k7 := hI.2.2.2.1.symm.trans (adv_n c_3))
  (try have hcv := cv_b (t := s.2 4) (q := k9) (k7 - k9).toNat (fun i a => hI.2.2.2.2.1 i (by omega)))
  (try unfold lex3)
  (try simp only [bI_0, bI_n, Classical.not_not] at *)
  (try simp (disch := omega) only [i32_id] at *)
  first | done | omega | ((repeat' (with_reducible apply And.intro)) <;> first | assumption | rfl | omega | (rw [← hI.2]; exact (adv_y isWs_T (Or.inl c_3)).symm) | (rw [← hI.2]; exact (adv_y isWs_T (Or.inr c_5)).symm) | (exact hp7) | (exact hp7.symm) | (exact (hk.2.1 c_12).symm) | (exact (hk.1 c_12).symm) | (exact hk.2.2.1.symm) | (exact hk.2.2.2.2.symm) | (exact hk.2.2.2.1.symm) | (exact he.2.1.symm) | (exact he.1.symm) | (exact he.2.2.2.symm) | (exact he.2.2.1.symm) | (exact c_8) | (exact c_10) | (intro i hi; omega) | (rw [show (k7 - k7).toNat = 0 by omega]; rfl) | (exact hI.2.1) | (exact hI.2.1.symm) | (exact hI.2.2.1) | (exact hI.2.2.1.1) | (exact hI.2.2.1.2) | (rw [hw.2.1, ha]) | (rw [hw.1]; exact hI.2.2.2.2.2.1) | (rw [hw.2.2.2]; exact hI.2.2.2.2.2.2.1) | (rw [hw.2.2.1, ha, show k7 - k9 = x1 by omega]; exact hI.2.2.2.2.2.2.2) | (rw [hn.2.1, ha]) | (rw [hn.1]; exact hI.2.2.2.2.2.1) | (rw [hn.2.2.2]; exact hI.2.2.2.2.2.2.1) | (rw [hn.2.2.1, ha]; exact hI.2.2.2.2.2.2.2) | (rw [← hI.2.2.2.1]; exact (adv_y isB_T c_3).symm) | (intro i hi; by_cases e : (i : Int) = x1; (focus (rw [e, ← hI.1.2.1]; omega)); (focus (exact hI.2.2.2.2.1 i (by omega)))) | (intro i hi; by_cases e : (i : Int) = k7 - k9; (focus (rw [e, show k9 + (k7 - k9) = k7 by omega]; omega)); (focus (exact hI.2.2.2.2.1 i (by omega)))) | (rw [cw_s _ _ hI.1.1, if_neg (by omega), ← hI.2.2.2.2.2.2.2, ← hI.1.2.1, i64_id (x := 27 * k11) (by omega) (by omega), i64_id (x := 27 * k11 + s.2 4 k7) (by omega) (by omega), i64_id (by omega) (by omega)]) | (rw [cw_s _ _ hI.1.1, if_pos (by omega)]) | (rw [show k7 + 1 - k9 = (k7 - k9) + 1 by omega, cv_s _ _ (by omega), if_neg (by omega), ← hI.2.2.2.2.2.2.2, show k9 + (k7 - k9) = k7 by omega]) | (rw [show k7 + 1 - k9 = (k7 - k9) + 1 by omega, cv_s _ _ (by omega), if_pos (by omega)]) | grind [upI])
theorem vcX3_next_16 (s : MS) (hp : 0 ≤ (s.1 7) ∧ (s.1 7) ≤ (s.1 6) ∧ (s.1 6) ≤ 800) (k7 : Int) (k8 : Int) (k9 : Int) (k10 : Int) (k11 : Int) (hI : (0 ≤ k7 ∧ k7 ≤ s.1 6) ∧ plc (s.2 4) (s.1 6) k7 = plc (s.2 4) (s.1 6) (s.1 7)) (o_1 : (0 ≤ k7 ∧ (s.1 6) ≤ 800)) (c_3 : (bI (k7 < (s.1 6) ∧ (32 : Int) ≤ (s.2 4) k7 ∧ (s.2 4) k7 ≤ (32 : Int))) = 0) (c_5 : (bI (k7 < (s.1 6) ∧ (10 : Int) ≤ (s.2 4) k7 ∧ (s.2 4) k7 ≤ (10 : Int))) = 0) (c_6 : ¬ k7 = (s.1 6)) (c_8 : (bI (k7 < (s.1 6) ∧ (97 : Int) ≤ (s.2 4) k7 ∧ (s.2 4) k7 ≤ (122 : Int))) = 0) (c_10 : ¬ (bI (k7 < (s.1 6) ∧ (48 : Int) ≤ (s.2 4) k7 ∧ (s.2 4) k7 ≤ (57 : Int))) = 0) : lex3 0 1 ((s.1 6 - k7).toNat) 0 2 ((s.1 6 - k7).toNat) := by
  (try simp only [bI_0, bI_n, Classical.not_not] at *)
  (try have hp7 : plc (s.2 4) (s.1 6) (s.1 7) = k7 := hI.2.symm.trans (adv_n (fun h => h.elim c_3 c_5)))
  (try have hk := tok_sign hp7 c_6 c_8 c_10)
  (try have he := tok_end hp7 c_6)
  (try have hw := tok_word hI.2.1 hI.2.2.1)
  (try have ha : adv (isB (s.2 4) (s.1 6) 97 122) k9 = k7 := hI.2.2.2.1.symm.trans (adv_n c_3))
  (try have hcb := cw_b (t := s.2 4) (q := k9) x1.toNat (by omega) (fun i a => hI.2.2.2.2.1 i (by omega)))
  (try have hcm : (27 : Int) ^ x1.toNat ≤ 5559060566555523 := Int.le_trans (pow_mono' (by omega) (n := 11) (by omega)) (by decide))
  (try have hn := tok_num hI.2.1 hI.2.2.1.1 hI.2.2.1.2)
  (try have ha : adv (isB (s.2 4) (s.1 6) 48 57) k9 = k7 := hI.2.2.2.1.symm.trans (adv_n c_3))
  (try have hcv := cv_b (t := s.2 4) (q := k9) (k7 - k9).toNat (fun i a => hI.2.2.2.2.1 i (by omega)))
  (try unfold lex3)
  (try simp only [bI_0, bI_n, Classical.not_not] at *)
  (try simp (disch := omega) only [i32_id] at *)
  first | done | omega | ((repeat' (with_reducible apply And.intro)) <;> first | assumption | rfl | omega | (rw [← hI.2]; exact (adv_y isWs_T (Or.inl c_3)).symm) | (rw [← hI.2]; exact (adv_y isWs_T (Or.inr c_5)).symm) | (exact hp7) | (exact hp7.symm) | (exact (hk.2.1 c_12).symm) | (exact (hk.1 c_12).symm) | (exact hk.2.2.1.symm) | (exact hk.2.2.2.2.symm) | (exact hk.2.2.2.1.symm) | (exact he.2.1.symm) | (exact he.1.symm) | (exact he.2.2.2.symm) | (exact he.2.2.1.symm) | (exact c_8) | (exact c_10) | (intro i hi; omega) | (rw [show (k7 - k7).toNat = 0 by omega]; rfl) | (exact hI.2.1) | (exact hI.2.1.symm) | (exact hI.2.2.1) | (exact hI.2.2.1.1) | (exact hI.2.2.1.2) | (rw [hw.2.1, ha]) | (rw [hw.1]; exact hI.2.2.2.2.2.1) | (rw [hw.2.2.2]; exact hI.2.2.2.2.2.2.1) | (rw [hw.2.2.1, ha, show k7 - k9 = x1 by omega]; exact hI.2.2.2.2.2.2.2) | (rw [hn.2.1, ha]) | (rw [hn.1]; exact hI.2.2.2.2.2.1) | (rw [hn.2.2.2]; exact hI.2.2.2.2.2.2.1) | (rw [hn.2.2.1, ha]; exact hI.2.2.2.2.2.2.2) | (rw [← hI.2.2.2.1]; exact (adv_y isB_T c_3).symm) | (intro i hi; by_cases e : (i : Int) = x1; (focus (rw [e, ← hI.1.2.1]; omega)); (focus (exact hI.2.2.2.2.1 i (by omega)))) | (intro i hi; by_cases e : (i : Int) = k7 - k9; (focus (rw [e, show k9 + (k7 - k9) = k7 by omega]; omega)); (focus (exact hI.2.2.2.2.1 i (by omega)))) | (rw [cw_s _ _ hI.1.1, if_neg (by omega), ← hI.2.2.2.2.2.2.2, ← hI.1.2.1, i64_id (x := 27 * k11) (by omega) (by omega), i64_id (x := 27 * k11 + s.2 4 k7) (by omega) (by omega), i64_id (by omega) (by omega)]) | (rw [cw_s _ _ hI.1.1, if_pos (by omega)]) | (rw [show k7 + 1 - k9 = (k7 - k9) + 1 by omega, cv_s _ _ (by omega), if_neg (by omega), ← hI.2.2.2.2.2.2.2, show k9 + (k7 - k9) = k7 by omega]) | (rw [show k7 + 1 - k9 = (k7 - k9) + 1 by omega, cv_s _ _ (by omega), if_pos (by omega)]) | grind [upI])
theorem vcX3_next_17 (s : MS) (hp : 0 ≤ (s.1 7) ∧ (s.1 7) ≤ (s.1 6) ∧ (s.1 6) ≤ 800) (k7 : Int) (k8 : Int) (k9 : Int) (k10 : Int) (k11 : Int) (hI : (0 ≤ k7 ∧ k7 ≤ s.1 6) ∧ plc (s.2 4) (s.1 6) k7 = plc (s.2 4) (s.1 6) (s.1 7)) (o_1 : (0 ≤ k7 ∧ (s.1 6) ≤ 800)) (c_3 : (bI (k7 < (s.1 6) ∧ (32 : Int) ≤ (s.2 4) k7 ∧ (s.2 4) k7 ≤ (32 : Int))) = 0) (c_5 : (bI (k7 < (s.1 6) ∧ (10 : Int) ≤ (s.2 4) k7 ∧ (s.2 4) k7 ≤ (10 : Int))) = 0) (c_6 : ¬ k7 = (s.1 6)) (c_8 : ¬ (bI (k7 < (s.1 6) ∧ (97 : Int) ≤ (s.2 4) k7 ∧ (s.2 4) k7 ≤ (122 : Int))) = 0) : (0 ≤ (0 : Int) ∧ k7 = k7 + (0 : Int) ∧ k7 ≤ s.1 6 ∧ 0 ≤ k7) ∧ plc (s.2 4) (s.1 6) (s.1 7) = k7 ∧ isB (s.2 4) (s.1 6) 97 122 k7 ∧ adv (isB (s.2 4) (s.1 6) 97 122) k7 = adv (isB (s.2 4) (s.1 6) 97 122) k7 ∧ (∀ i : Nat, i < (0 : Int) → 97 ≤ s.2 4 (k7 + i) ∧ s.2 4 (k7 + i) ≤ 122) ∧ (1 : Int) = 1 ∧ (0 : Int) = 0 ∧ (0 : Int) = cw (s.2 4) k7 (0 : Int).toNat := by
  (try simp only [bI_0, bI_n, Classical.not_not] at *)
  (try have hp7 : plc (s.2 4) (s.1 6) (s.1 7) = k7 := hI.2.symm.trans (adv_n (fun h => h.elim c_3 c_5)))
  (try have hk := tok_sign hp7 c_6 c_8 c_10)
  (try have he := tok_end hp7 c_6)
  (try have hw := tok_word hI.2.1 hI.2.2.1)
  (try have ha : adv (isB (s.2 4) (s.1 6) 97 122) k9 = k7 := hI.2.2.2.1.symm.trans (adv_n c_3))
  (try have hcb := cw_b (t := s.2 4) (q := k9) x1.toNat (by omega) (fun i a => hI.2.2.2.2.1 i (by omega)))
  (try have hcm : (27 : Int) ^ x1.toNat ≤ 5559060566555523 := Int.le_trans (pow_mono' (by omega) (n := 11) (by omega)) (by decide))
  (try have hn := tok_num hI.2.1 hI.2.2.1.1 hI.2.2.1.2)
  (try have ha : adv (isB (s.2 4) (s.1 6) 48 57) k9 = k7 := hI.2.2.2.1.symm.trans (adv_n c_3))
  (try have hcv := cv_b (t := s.2 4) (q := k9) (k7 - k9).toNat (fun i a => hI.2.2.2.2.1 i (by omega)))
  (try unfold lex3)
  (try simp only [bI_0, bI_n, Classical.not_not] at *)
  (try simp (disch := omega) only [i32_id] at *)
  first | done | omega | ((repeat' (with_reducible apply And.intro)) <;> first | assumption | rfl | omega | (rw [← hI.2]; exact (adv_y isWs_T (Or.inl c_3)).symm) | (rw [← hI.2]; exact (adv_y isWs_T (Or.inr c_5)).symm) | (exact hp7) | (exact hp7.symm) | (exact (hk.2.1 c_12).symm) | (exact (hk.1 c_12).symm) | (exact hk.2.2.1.symm) | (exact hk.2.2.2.2.symm) | (exact hk.2.2.2.1.symm) | (exact he.2.1.symm) | (exact he.1.symm) | (exact he.2.2.2.symm) | (exact he.2.2.1.symm) | (exact c_8) | (exact c_10) | (intro i hi; omega) | (rw [show (k7 - k7).toNat = 0 by omega]; rfl) | (exact hI.2.1) | (exact hI.2.1.symm) | (exact hI.2.2.1) | (exact hI.2.2.1.1) | (exact hI.2.2.1.2) | (rw [hw.2.1, ha]) | (rw [hw.1]; exact hI.2.2.2.2.2.1) | (rw [hw.2.2.2]; exact hI.2.2.2.2.2.2.1) | (rw [hw.2.2.1, ha, show k7 - k9 = x1 by omega]; exact hI.2.2.2.2.2.2.2) | (rw [hn.2.1, ha]) | (rw [hn.1]; exact hI.2.2.2.2.2.1) | (rw [hn.2.2.2]; exact hI.2.2.2.2.2.2.1) | (rw [hn.2.2.1, ha]; exact hI.2.2.2.2.2.2.2) | (rw [← hI.2.2.2.1]; exact (adv_y isB_T c_3).symm) | (intro i hi; by_cases e : (i : Int) = x1; (focus (rw [e, ← hI.1.2.1]; omega)); (focus (exact hI.2.2.2.2.1 i (by omega)))) | (intro i hi; by_cases e : (i : Int) = k7 - k9; (focus (rw [e, show k9 + (k7 - k9) = k7 by omega]; omega)); (focus (exact hI.2.2.2.2.1 i (by omega)))) | (rw [cw_s _ _ hI.1.1, if_neg (by omega), ← hI.2.2.2.2.2.2.2, ← hI.1.2.1, i64_id (x := 27 * k11) (by omega) (by omega), i64_id (x := 27 * k11 + s.2 4 k7) (by omega) (by omega), i64_id (by omega) (by omega)]) | (rw [cw_s _ _ hI.1.1, if_pos (by omega)]) | (rw [show k7 + 1 - k9 = (k7 - k9) + 1 by omega, cv_s _ _ (by omega), if_neg (by omega), ← hI.2.2.2.2.2.2.2, show k9 + (k7 - k9) = k7 by omega]) | (rw [show k7 + 1 - k9 = (k7 - k9) + 1 by omega, cv_s _ _ (by omega), if_pos (by omega)]) | grind [upI])
theorem vcX3_next_18 (s : MS) (hp : 0 ≤ (s.1 7) ∧ (s.1 7) ≤ (s.1 6) ∧ (s.1 6) ≤ 800) (k7 : Int) (k8 : Int) (k9 : Int) (k10 : Int) (k11 : Int) (hI : (0 ≤ k7 ∧ k7 ≤ s.1 6) ∧ plc (s.2 4) (s.1 6) k7 = plc (s.2 4) (s.1 6) (s.1 7)) (o_1 : (0 ≤ k7 ∧ (s.1 6) ≤ 800)) (c_3 : (bI (k7 < (s.1 6) ∧ (32 : Int) ≤ (s.2 4) k7 ∧ (s.2 4) k7 ≤ (32 : Int))) = 0) (c_5 : (bI (k7 < (s.1 6) ∧ (10 : Int) ≤ (s.2 4) k7 ∧ (s.2 4) k7 ≤ (10 : Int))) = 0) (c_6 : ¬ k7 = (s.1 6)) (c_8 : ¬ (bI (k7 < (s.1 6) ∧ (97 : Int) ≤ (s.2 4) k7 ∧ (s.2 4) k7 ≤ (122 : Int))) = 0) : lex3 0 1 ((s.1 6 - k7).toNat) 0 2 ((s.1 6 - k7).toNat) := by
  (try simp only [bI_0, bI_n, Classical.not_not] at *)
  (try have hp7 : plc (s.2 4) (s.1 6) (s.1 7) = k7 := hI.2.symm.trans (adv_n (fun h => h.elim c_3 c_5)))
  (try have hk := tok_sign hp7 c_6 c_8 c_10)
  (try have he := tok_end hp7 c_6)
  (try have hw := tok_word hI.2.1 hI.2.2.1)
  (try have ha : adv (isB (s.2 4) (s.1 6) 97 122) k9 = k7 := hI.2.2.2.1.symm.trans (adv_n c_3))
  (try have hcb := cw_b (t := s.2 4) (q := k9) x1.toNat (by omega) (fun i a => hI.2.2.2.2.1 i (by omega)))
  (try have hcm : (27 : Int) ^ x1.toNat ≤ 5559060566555523 := Int.le_trans (pow_mono' (by omega) (n := 11) (by omega)) (by decide))
  (try have hn := tok_num hI.2.1 hI.2.2.1.1 hI.2.2.1.2)
  (try have ha : adv (isB (s.2 4) (s.1 6) 48 57) k9 = k7 := hI.2.2.2.1.symm.trans (adv_n c_3))
  (try have hcv := cv_b (t := s.2 4) (q := k9) (k7 - k9).toNat (fun i a => hI.2.2.2.2.1 i (by omega)))
  (try unfold lex3)
  (try simp only [bI_0, bI_n, Classical.not_not] at *)
  (try simp (disch := omega) only [i32_id] at *)
  first | done | omega | ((repeat' (with_reducible apply And.intro)) <;> first | assumption | rfl | omega | (rw [← hI.2]; exact (adv_y isWs_T (Or.inl c_3)).symm) | (rw [← hI.2]; exact (adv_y isWs_T (Or.inr c_5)).symm) | (exact hp7) | (exact hp7.symm) | (exact (hk.2.1 c_12).symm) | (exact (hk.1 c_12).symm) | (exact hk.2.2.1.symm) | (exact hk.2.2.2.2.symm) | (exact hk.2.2.2.1.symm) | (exact he.2.1.symm) | (exact he.1.symm) | (exact he.2.2.2.symm) | (exact he.2.2.1.symm) | (exact c_8) | (exact c_10) | (intro i hi; omega) | (rw [show (k7 - k7).toNat = 0 by omega]; rfl) | (exact hI.2.1) | (exact hI.2.1.symm) | (exact hI.2.2.1) | (exact hI.2.2.1.1) | (exact hI.2.2.1.2) | (rw [hw.2.1, ha]) | (rw [hw.1]; exact hI.2.2.2.2.2.1) | (rw [hw.2.2.2]; exact hI.2.2.2.2.2.2.1) | (rw [hw.2.2.1, ha, show k7 - k9 = x1 by omega]; exact hI.2.2.2.2.2.2.2) | (rw [hn.2.1, ha]) | (rw [hn.1]; exact hI.2.2.2.2.2.1) | (rw [hn.2.2.2]; exact hI.2.2.2.2.2.2.1) | (rw [hn.2.2.1, ha]; exact hI.2.2.2.2.2.2.2) | (rw [← hI.2.2.2.1]; exact (adv_y isB_T c_3).symm) | (intro i hi; by_cases e : (i : Int) = x1; (focus (rw [e, ← hI.1.2.1]; omega)); (focus (exact hI.2.2.2.2.1 i (by omega)))) | (intro i hi; by_cases e : (i : Int) = k7 - k9; (focus (rw [e, show k9 + (k7 - k9) = k7 by omega]; omega)); (focus (exact hI.2.2.2.2.1 i (by omega)))) | (rw [cw_s _ _ hI.1.1, if_neg (by omega), ← hI.2.2.2.2.2.2.2, ← hI.1.2.1, i64_id (x := 27 * k11) (by omega) (by omega), i64_id (x := 27 * k11 + s.2 4 k7) (by omega) (by omega), i64_id (by omega) (by omega)]) | (rw [cw_s _ _ hI.1.1, if_pos (by omega)]) | (rw [show k7 + 1 - k9 = (k7 - k9) + 1 by omega, cv_s _ _ (by omega), if_neg (by omega), ← hI.2.2.2.2.2.2.2, show k9 + (k7 - k9) = k7 by omega]) | (rw [show k7 + 1 - k9 = (k7 - k9) + 1 by omega, cv_s _ _ (by omega), if_pos (by omega)]) | grind [upI])
theorem vcX3_next_19 (s : MS) (hp : 0 ≤ (s.1 7) ∧ (s.1 7) ≤ (s.1 6) ∧ (s.1 6) ≤ 800) (k7 : Int) (k8 : Int) (k9 : Int) (k10 : Int) (k11 : Int) (hI : (0 ≤ k7 ∧ k7 ≤ s.1 6) ∧ plc (s.2 4) (s.1 6) k7 = plc (s.2 4) (s.1 6) (s.1 7)) (o_1 : (0 ≤ k7 ∧ (s.1 6) ≤ 800)) (c_3 : (bI (k7 < (s.1 6) ∧ (32 : Int) ≤ (s.2 4) k7 ∧ (s.2 4) k7 ≤ (32 : Int))) = 0) (c_5 : (bI (k7 < (s.1 6) ∧ (10 : Int) ≤ (s.2 4) k7 ∧ (s.2 4) k7 ≤ (10 : Int))) = 0) (c_6 : k7 = (s.1 6)) : k7 = (enx (s.2 4) (s.1 6) (s.1 7)) := by
  (try simp only [bI_0, bI_n, Classical.not_not] at *)
  (try have hp7 : plc (s.2 4) (s.1 6) (s.1 7) = k7 := hI.2.symm.trans (adv_n (fun h => h.elim c_3 c_5)))
  (try have hk := tok_sign hp7 c_6 c_8 c_10)
  (try have he := tok_end hp7 c_6)
  (try have hw := tok_word hI.2.1 hI.2.2.1)
  (try have ha : adv (isB (s.2 4) (s.1 6) 97 122) k9 = k7 := hI.2.2.2.1.symm.trans (adv_n c_3))
  (try have hcb := cw_b (t := s.2 4) (q := k9) x1.toNat (by omega) (fun i a => hI.2.2.2.2.1 i (by omega)))
  (try have hcm : (27 : Int) ^ x1.toNat ≤ 5559060566555523 := Int.le_trans (pow_mono' (by omega) (n := 11) (by omega)) (by decide))
  (try have hn := tok_num hI.2.1 hI.2.2.1.1 hI.2.2.1.2)
  (try have ha : adv (isB (s.2 4) (s.1 6) 48 57) k9 = k7 := hI.2.2.2.1.symm.trans (adv_n c_3))
  (try have hcv := cv_b (t := s.2 4) (q := k9) (k7 - k9).toNat (fun i a => hI.2.2.2.2.1 i (by omega)))
  (try unfold lex3)
  (try simp only [bI_0, bI_n, Classical.not_not] at *)
  (try simp (disch := omega) only [i32_id] at *)
  first | done | omega | ((repeat' (with_reducible apply And.intro)) <;> first | assumption | rfl | omega | (rw [← hI.2]; exact (adv_y isWs_T (Or.inl c_3)).symm) | (rw [← hI.2]; exact (adv_y isWs_T (Or.inr c_5)).symm) | (exact hp7) | (exact hp7.symm) | (exact (hk.2.1 c_12).symm) | (exact (hk.1 c_12).symm) | (exact hk.2.2.1.symm) | (exact hk.2.2.2.2.symm) | (exact hk.2.2.2.1.symm) | (exact he.2.1.symm) | (exact he.1.symm) | (exact he.2.2.2.symm) | (exact he.2.2.1.symm) | (exact c_8) | (exact c_10) | (intro i hi; omega) | (rw [show (k7 - k7).toNat = 0 by omega]; rfl) | (exact hI.2.1) | (exact hI.2.1.symm) | (exact hI.2.2.1) | (exact hI.2.2.1.1) | (exact hI.2.2.1.2) | (rw [hw.2.1, ha]) | (rw [hw.1]; exact hI.2.2.2.2.2.1) | (rw [hw.2.2.2]; exact hI.2.2.2.2.2.2.1) | (rw [hw.2.2.1, ha, show k7 - k9 = x1 by omega]; exact hI.2.2.2.2.2.2.2) | (rw [hn.2.1, ha]) | (rw [hn.1]; exact hI.2.2.2.2.2.1) | (rw [hn.2.2.2]; exact hI.2.2.2.2.2.2.1) | (rw [hn.2.2.1, ha]; exact hI.2.2.2.2.2.2.2) | (rw [← hI.2.2.2.1]; exact (adv_y isB_T c_3).symm) | (intro i hi; by_cases e : (i : Int) = x1; (focus (rw [e, ← hI.1.2.1]; omega)); (focus (exact hI.2.2.2.2.1 i (by omega)))) | (intro i hi; by_cases e : (i : Int) = k7 - k9; (focus (rw [e, show k9 + (k7 - k9) = k7 by omega]; omega)); (focus (exact hI.2.2.2.2.1 i (by omega)))) | (rw [cw_s _ _ hI.1.1, if_neg (by omega), ← hI.2.2.2.2.2.2.2, ← hI.1.2.1, i64_id (x := 27 * k11) (by omega) (by omega), i64_id (x := 27 * k11 + s.2 4 k7) (by omega) (by omega), i64_id (by omega) (by omega)]) | (rw [cw_s _ _ hI.1.1, if_pos (by omega)]) | (rw [show k7 + 1 - k9 = (k7 - k9) + 1 by omega, cv_s _ _ (by omega), if_neg (by omega), ← hI.2.2.2.2.2.2.2, show k9 + (k7 - k9) = k7 by omega]) | (rw [show k7 + 1 - k9 = (k7 - k9) + 1 by omega, cv_s _ _ (by omega), if_pos (by omega)]) | grind [upI])
theorem vcX3_next_20 (s : MS) (hp : 0 ≤ (s.1 7) ∧ (s.1 7) ≤ (s.1 6) ∧ (s.1 6) ≤ 800) (k7 : Int) (k8 : Int) (k9 : Int) (k10 : Int) (k11 : Int) (hI : (0 ≤ k7 ∧ k7 ≤ s.1 6) ∧ plc (s.2 4) (s.1 6) k7 = plc (s.2 4) (s.1 6) (s.1 7)) (o_1 : (0 ≤ k7 ∧ (s.1 6) ≤ 800)) (c_3 : (bI (k7 < (s.1 6) ∧ (32 : Int) ≤ (s.2 4) k7 ∧ (s.2 4) k7 ≤ (32 : Int))) = 0) (c_5 : (bI (k7 < (s.1 6) ∧ (10 : Int) ≤ (s.2 4) k7 ∧ (s.2 4) k7 ≤ (10 : Int))) = 0) (c_6 : k7 = (s.1 6)) : 0 = (knd (s.2 4) (s.1 6) (s.1 7)) := by
  (try simp only [bI_0, bI_n, Classical.not_not] at *)
  (try have hp7 : plc (s.2 4) (s.1 6) (s.1 7) = k7 := hI.2.symm.trans (adv_n (fun h => h.elim c_3 c_5)))
  (try have hk := tok_sign hp7 c_6 c_8 c_10)
  (try have he := tok_end hp7 c_6)
  (try have hw := tok_word hI.2.1 hI.2.2.1)
  (try have ha : adv (isB (s.2 4) (s.1 6) 97 122) k9 = k7 := hI.2.2.2.1.symm.trans (adv_n c_3))
  (try have hcb := cw_b (t := s.2 4) (q := k9) x1.toNat (by omega) (fun i a => hI.2.2.2.2.1 i (by omega)))
  (try have hcm : (27 : Int) ^ x1.toNat ≤ 5559060566555523 := Int.le_trans (pow_mono' (by omega) (n := 11) (by omega)) (by decide))
  (try have hn := tok_num hI.2.1 hI.2.2.1.1 hI.2.2.1.2)
  (try have ha : adv (isB (s.2 4) (s.1 6) 48 57) k9 = k7 := hI.2.2.2.1.symm.trans (adv_n c_3))
  (try have hcv := cv_b (t := s.2 4) (q := k9) (k7 - k9).toNat (fun i a => hI.2.2.2.2.1 i (by omega)))
  (try unfold lex3)
  (try simp only [bI_0, bI_n, Classical.not_not] at *)
  (try simp (disch := omega) only [i32_id] at *)
  first | done | omega | ((repeat' (with_reducible apply And.intro)) <;> first | assumption | rfl | omega | (rw [← hI.2]; exact (adv_y isWs_T (Or.inl c_3)).symm) | (rw [← hI.2]; exact (adv_y isWs_T (Or.inr c_5)).symm) | (exact hp7) | (exact hp7.symm) | (exact (hk.2.1 c_12).symm) | (exact (hk.1 c_12).symm) | (exact hk.2.2.1.symm) | (exact hk.2.2.2.2.symm) | (exact hk.2.2.2.1.symm) | (exact he.2.1.symm) | (exact he.1.symm) | (exact he.2.2.2.symm) | (exact he.2.2.1.symm) | (exact c_8) | (exact c_10) | (intro i hi; omega) | (rw [show (k7 - k7).toNat = 0 by omega]; rfl) | (exact hI.2.1) | (exact hI.2.1.symm) | (exact hI.2.2.1) | (exact hI.2.2.1.1) | (exact hI.2.2.1.2) | (rw [hw.2.1, ha]) | (rw [hw.1]; exact hI.2.2.2.2.2.1) | (rw [hw.2.2.2]; exact hI.2.2.2.2.2.2.1) | (rw [hw.2.2.1, ha, show k7 - k9 = x1 by omega]; exact hI.2.2.2.2.2.2.2) | (rw [hn.2.1, ha]) | (rw [hn.1]; exact hI.2.2.2.2.2.1) | (rw [hn.2.2.2]; exact hI.2.2.2.2.2.2.1) | (rw [hn.2.2.1, ha]; exact hI.2.2.2.2.2.2.2) | (rw [← hI.2.2.2.1]; exact (adv_y isB_T c_3).symm) | (intro i hi; by_cases e : (i : Int) = x1; (focus (rw [e, ← hI.1.2.1]; omega)); (focus (exact hI.2.2.2.2.1 i (by omega)))) | (intro i hi; by_cases e : (i : Int) = k7 - k9; (focus (rw [e, show k9 + (k7 - k9) = k7 by omega]; omega)); (focus (exact hI.2.2.2.2.1 i (by omega)))) | (rw [cw_s _ _ hI.1.1, if_neg (by omega), ← hI.2.2.2.2.2.2.2, ← hI.1.2.1, i64_id (x := 27 * k11) (by omega) (by omega), i64_id (x := 27 * k11 + s.2 4 k7) (by omega) (by omega), i64_id (by omega) (by omega)]) | (rw [cw_s _ _ hI.1.1, if_pos (by omega)]) | (rw [show k7 + 1 - k9 = (k7 - k9) + 1 by omega, cv_s _ _ (by omega), if_neg (by omega), ← hI.2.2.2.2.2.2.2, show k9 + (k7 - k9) = k7 by omega]) | (rw [show k7 + 1 - k9 = (k7 - k9) + 1 by omega, cv_s _ _ (by omega), if_pos (by omega)]) | grind [upI])
theorem vcX3_next_21 (s : MS) (hp : 0 ≤ (s.1 7) ∧ (s.1 7) ≤ (s.1 6) ∧ (s.1 6) ≤ 800) (k7 : Int) (k8 : Int) (k9 : Int) (k10 : Int) (k11 : Int) (hI : (0 ≤ k7 ∧ k7 ≤ s.1 6) ∧ plc (s.2 4) (s.1 6) k7 = plc (s.2 4) (s.1 6) (s.1 7)) (o_1 : (0 ≤ k7 ∧ (s.1 6) ≤ 800)) (c_3 : (bI (k7 < (s.1 6) ∧ (32 : Int) ≤ (s.2 4) k7 ∧ (s.2 4) k7 ≤ (32 : Int))) = 0) (c_5 : (bI (k7 < (s.1 6) ∧ (10 : Int) ≤ (s.2 4) k7 ∧ (s.2 4) k7 ≤ (10 : Int))) = 0) (c_6 : k7 = (s.1 6)) : k7 = (plc (s.2 4) (s.1 6) (s.1 7)) := by
  (try simp only [bI_0, bI_n, Classical.not_not] at *)
  (try have hp7 : plc (s.2 4) (s.1 6) (s.1 7) = k7 := hI.2.symm.trans (adv_n (fun h => h.elim c_3 c_5)))
  (try have hk := tok_sign hp7 c_6 c_8 c_10)
  (try have he := tok_end hp7 c_6)
  (try have hw := tok_word hI.2.1 hI.2.2.1)
  (try have ha : adv (isB (s.2 4) (s.1 6) 97 122) k9 = k7 := hI.2.2.2.1.symm.trans (adv_n c_3))
  (try have hcb := cw_b (t := s.2 4) (q := k9) x1.toNat (by omega) (fun i a => hI.2.2.2.2.1 i (by omega)))
  (try have hcm : (27 : Int) ^ x1.toNat ≤ 5559060566555523 := Int.le_trans (pow_mono' (by omega) (n := 11) (by omega)) (by decide))
  (try have hn := tok_num hI.2.1 hI.2.2.1.1 hI.2.2.1.2)
  (try have ha : adv (isB (s.2 4) (s.1 6) 48 57) k9 = k7 := hI.2.2.2.1.symm.trans (adv_n c_3))
  (try have hcv := cv_b (t := s.2 4) (q := k9) (k7 - k9).toNat (fun i a => hI.2.2.2.2.1 i (by omega)))
  (try unfold lex3)
  (try simp only [bI_0, bI_n, Classical.not_not] at *)
  (try simp (disch := omega) only [i32_id] at *)
  first | done | omega | ((repeat' (with_reducible apply And.intro)) <;> first | assumption | rfl | omega | (rw [← hI.2]; exact (adv_y isWs_T (Or.inl c_3)).symm) | (rw [← hI.2]; exact (adv_y isWs_T (Or.inr c_5)).symm) | (exact hp7) | (exact hp7.symm) | (exact (hk.2.1 c_12).symm) | (exact (hk.1 c_12).symm) | (exact hk.2.2.1.symm) | (exact hk.2.2.2.2.symm) | (exact hk.2.2.2.1.symm) | (exact he.2.1.symm) | (exact he.1.symm) | (exact he.2.2.2.symm) | (exact he.2.2.1.symm) | (exact c_8) | (exact c_10) | (intro i hi; omega) | (rw [show (k7 - k7).toNat = 0 by omega]; rfl) | (exact hI.2.1) | (exact hI.2.1.symm) | (exact hI.2.2.1) | (exact hI.2.2.1.1) | (exact hI.2.2.1.2) | (rw [hw.2.1, ha]) | (rw [hw.1]; exact hI.2.2.2.2.2.1) | (rw [hw.2.2.2]; exact hI.2.2.2.2.2.2.1) | (rw [hw.2.2.1, ha, show k7 - k9 = x1 by omega]; exact hI.2.2.2.2.2.2.2) | (rw [hn.2.1, ha]) | (rw [hn.1]; exact hI.2.2.2.2.2.1) | (rw [hn.2.2.2]; exact hI.2.2.2.2.2.2.1) | (rw [hn.2.2.1, ha]; exact hI.2.2.2.2.2.2.2) | (rw [← hI.2.2.2.1]; exact (adv_y isB_T c_3).symm) | (intro i hi; by_cases e : (i : Int) = x1; (focus (rw [e, ← hI.1.2.1]; omega)); (focus (exact hI.2.2.2.2.1 i (by omega)))) | (intro i hi; by_cases e : (i : Int) = k7 - k9; (focus (rw [e, show k9 + (k7 - k9) = k7 by omega]; omega)); (focus (exact hI.2.2.2.2.1 i (by omega)))) | (rw [cw_s _ _ hI.1.1, if_neg (by omega), ← hI.2.2.2.2.2.2.2, ← hI.1.2.1, i64_id (x := 27 * k11) (by omega) (by omega), i64_id (x := 27 * k11 + s.2 4 k7) (by omega) (by omega), i64_id (by omega) (by omega)]) | (rw [cw_s _ _ hI.1.1, if_pos (by omega)]) | (rw [show k7 + 1 - k9 = (k7 - k9) + 1 by omega, cv_s _ _ (by omega), if_neg (by omega), ← hI.2.2.2.2.2.2.2, show k9 + (k7 - k9) = k7 by omega]) | (rw [show k7 + 1 - k9 = (k7 - k9) + 1 by omega, cv_s _ _ (by omega), if_pos (by omega)]) | grind [upI])
theorem vcX3_next_22 (s : MS) (hp : 0 ≤ (s.1 7) ∧ (s.1 7) ≤ (s.1 6) ∧ (s.1 6) ≤ 800) (k7 : Int) (k8 : Int) (k9 : Int) (k10 : Int) (k11 : Int) (hI : (0 ≤ k7 ∧ k7 ≤ s.1 6) ∧ plc (s.2 4) (s.1 6) k7 = plc (s.2 4) (s.1 6) (s.1 7)) (o_1 : (0 ≤ k7 ∧ (s.1 6) ≤ 800)) (c_3 : (bI (k7 < (s.1 6) ∧ (32 : Int) ≤ (s.2 4) k7 ∧ (s.2 4) k7 ≤ (32 : Int))) = 0) (c_5 : (bI (k7 < (s.1 6) ∧ (10 : Int) ≤ (s.2 4) k7 ∧ (s.2 4) k7 ≤ (10 : Int))) = 0) (c_6 : k7 = (s.1 6)) : 0 = (vlu (s.2 4) (s.1 6) (s.1 7)) := by
  (try simp only [bI_0, bI_n, Classical.not_not] at *)
  (try have hp7 : plc (s.2 4) (s.1 6) (s.1 7) = k7 := hI.2.symm.trans (adv_n (fun h => h.elim c_3 c_5)))
  (try have hk := tok_sign hp7 c_6 c_8 c_10)
  (try have he := tok_end hp7 c_6)
  (try have hw := tok_word hI.2.1 hI.2.2.1)
  (try have ha : adv (isB (s.2 4) (s.1 6) 97 122) k9 = k7 := hI.2.2.2.1.symm.trans (adv_n c_3))
  (try have hcb := cw_b (t := s.2 4) (q := k9) x1.toNat (by omega) (fun i a => hI.2.2.2.2.1 i (by omega)))
  (try have hcm : (27 : Int) ^ x1.toNat ≤ 5559060566555523 := Int.le_trans (pow_mono' (by omega) (n := 11) (by omega)) (by decide))
  (try have hn := tok_num hI.2.1 hI.2.2.1.1 hI.2.2.1.2)
  (try have ha : adv (isB (s.2 4) (s.1 6) 48 57) k9 = k7 := hI.2.2.2.1.symm.trans (adv_n c_3))
  (try have hcv := cv_b (t := s.2 4) (q := k9) (k7 - k9).toNat (fun i a => hI.2.2.2.2.1 i (by omega)))
  (try unfold lex3)
  (try simp only [bI_0, bI_n, Classical.not_not] at *)
  (try simp (disch := omega) only [i32_id] at *)
  first | done | omega | ((repeat' (with_reducible apply And.intro)) <;> first | assumption | rfl | omega | (rw [← hI.2]; exact (adv_y isWs_T (Or.inl c_3)).symm) | (rw [← hI.2]; exact (adv_y isWs_T (Or.inr c_5)).symm) | (exact hp7) | (exact hp7.symm) | (exact (hk.2.1 c_12).symm) | (exact (hk.1 c_12).symm) | (exact hk.2.2.1.symm) | (exact hk.2.2.2.2.symm) | (exact hk.2.2.2.1.symm) | (exact he.2.1.symm) | (exact he.1.symm) | (exact he.2.2.2.symm) | (exact he.2.2.1.symm) | (exact c_8) | (exact c_10) | (intro i hi; omega) | (rw [show (k7 - k7).toNat = 0 by omega]; rfl) | (exact hI.2.1) | (exact hI.2.1.symm) | (exact hI.2.2.1) | (exact hI.2.2.1.1) | (exact hI.2.2.1.2) | (rw [hw.2.1, ha]) | (rw [hw.1]; exact hI.2.2.2.2.2.1) | (rw [hw.2.2.2]; exact hI.2.2.2.2.2.2.1) | (rw [hw.2.2.1, ha, show k7 - k9 = x1 by omega]; exact hI.2.2.2.2.2.2.2) | (rw [hn.2.1, ha]) | (rw [hn.1]; exact hI.2.2.2.2.2.1) | (rw [hn.2.2.2]; exact hI.2.2.2.2.2.2.1) | (rw [hn.2.2.1, ha]; exact hI.2.2.2.2.2.2.2) | (rw [← hI.2.2.2.1]; exact (adv_y isB_T c_3).symm) | (intro i hi; by_cases e : (i : Int) = x1; (focus (rw [e, ← hI.1.2.1]; omega)); (focus (exact hI.2.2.2.2.1 i (by omega)))) | (intro i hi; by_cases e : (i : Int) = k7 - k9; (focus (rw [e, show k9 + (k7 - k9) = k7 by omega]; omega)); (focus (exact hI.2.2.2.2.1 i (by omega)))) | (rw [cw_s _ _ hI.1.1, if_neg (by omega), ← hI.2.2.2.2.2.2.2, ← hI.1.2.1, i64_id (x := 27 * k11) (by omega) (by omega), i64_id (x := 27 * k11 + s.2 4 k7) (by omega) (by omega), i64_id (by omega) (by omega)]) | (rw [cw_s _ _ hI.1.1, if_pos (by omega)]) | (rw [show k7 + 1 - k9 = (k7 - k9) + 1 by omega, cv_s _ _ (by omega), if_neg (by omega), ← hI.2.2.2.2.2.2.2, show k9 + (k7 - k9) = k7 by omega]) | (rw [show k7 + 1 - k9 = (k7 - k9) + 1 by omega, cv_s _ _ (by omega), if_pos (by omega)]) | grind [upI])
theorem vcX3_next_23 (s : MS) (hp : 0 ≤ (s.1 7) ∧ (s.1 7) ≤ (s.1 6) ∧ (s.1 6) ≤ 800) (k7 : Int) (k8 : Int) (k9 : Int) (k10 : Int) (k11 : Int) (hI : (0 ≤ k7 ∧ k7 ≤ s.1 6) ∧ plc (s.2 4) (s.1 6) k7 = plc (s.2 4) (s.1 6) (s.1 7)) (o_1 : (0 ≤ k7 ∧ (s.1 6) ≤ 800)) (c_3 : (bI (k7 < (s.1 6) ∧ (32 : Int) ≤ (s.2 4) k7 ∧ (s.2 4) k7 ≤ (32 : Int))) = 0) (c_5 : (bI (k7 < (s.1 6) ∧ (10 : Int) ≤ (s.2 4) k7 ∧ (s.2 4) k7 ≤ (10 : Int))) = 0) (c_6 : k7 = (s.1 6)) : 0 = (wrd (s.2 4) (s.1 6) (s.1 7)) := by
  (try simp only [bI_0, bI_n, Classical.not_not] at *)
  (try have hp7 : plc (s.2 4) (s.1 6) (s.1 7) = k7 := hI.2.symm.trans (adv_n (fun h => h.elim c_3 c_5)))
  (try have hk := tok_sign hp7 c_6 c_8 c_10)
  (try have he := tok_end hp7 c_6)
  (try have hw := tok_word hI.2.1 hI.2.2.1)
  (try have ha : adv (isB (s.2 4) (s.1 6) 97 122) k9 = k7 := hI.2.2.2.1.symm.trans (adv_n c_3))
  (try have hcb := cw_b (t := s.2 4) (q := k9) x1.toNat (by omega) (fun i a => hI.2.2.2.2.1 i (by omega)))
  (try have hcm : (27 : Int) ^ x1.toNat ≤ 5559060566555523 := Int.le_trans (pow_mono' (by omega) (n := 11) (by omega)) (by decide))
  (try have hn := tok_num hI.2.1 hI.2.2.1.1 hI.2.2.1.2)
  (try have ha : adv (isB (s.2 4) (s.1 6) 48 57) k9 = k7 := hI.2.2.2.1.symm.trans (adv_n c_3))
  (try have hcv := cv_b (t := s.2 4) (q := k9) (k7 - k9).toNat (fun i a => hI.2.2.2.2.1 i (by omega)))
  (try unfold lex3)
  (try simp only [bI_0, bI_n, Classical.not_not] at *)
  (try simp (disch := omega) only [i32_id] at *)
  first | done | omega | ((repeat' (with_reducible apply And.intro)) <;> first | assumption | rfl | omega | (rw [← hI.2]; exact (adv_y isWs_T (Or.inl c_3)).symm) | (rw [← hI.2]; exact (adv_y isWs_T (Or.inr c_5)).symm) | (exact hp7) | (exact hp7.symm) | (exact (hk.2.1 c_12).symm) | (exact (hk.1 c_12).symm) | (exact hk.2.2.1.symm) | (exact hk.2.2.2.2.symm) | (exact hk.2.2.2.1.symm) | (exact he.2.1.symm) | (exact he.1.symm) | (exact he.2.2.2.symm) | (exact he.2.2.1.symm) | (exact c_8) | (exact c_10) | (intro i hi; omega) | (rw [show (k7 - k7).toNat = 0 by omega]; rfl) | (exact hI.2.1) | (exact hI.2.1.symm) | (exact hI.2.2.1) | (exact hI.2.2.1.1) | (exact hI.2.2.1.2) | (rw [hw.2.1, ha]) | (rw [hw.1]; exact hI.2.2.2.2.2.1) | (rw [hw.2.2.2]; exact hI.2.2.2.2.2.2.1) | (rw [hw.2.2.1, ha, show k7 - k9 = x1 by omega]; exact hI.2.2.2.2.2.2.2) | (rw [hn.2.1, ha]) | (rw [hn.1]; exact hI.2.2.2.2.2.1) | (rw [hn.2.2.2]; exact hI.2.2.2.2.2.2.1) | (rw [hn.2.2.1, ha]; exact hI.2.2.2.2.2.2.2) | (rw [← hI.2.2.2.1]; exact (adv_y isB_T c_3).symm) | (intro i hi; by_cases e : (i : Int) = x1; (focus (rw [e, ← hI.1.2.1]; omega)); (focus (exact hI.2.2.2.2.1 i (by omega)))) | (intro i hi; by_cases e : (i : Int) = k7 - k9; (focus (rw [e, show k9 + (k7 - k9) = k7 by omega]; omega)); (focus (exact hI.2.2.2.2.1 i (by omega)))) | (rw [cw_s _ _ hI.1.1, if_neg (by omega), ← hI.2.2.2.2.2.2.2, ← hI.1.2.1, i64_id (x := 27 * k11) (by omega) (by omega), i64_id (x := 27 * k11 + s.2 4 k7) (by omega) (by omega), i64_id (by omega) (by omega)]) | (rw [cw_s _ _ hI.1.1, if_pos (by omega)]) | (rw [show k7 + 1 - k9 = (k7 - k9) + 1 by omega, cv_s _ _ (by omega), if_neg (by omega), ← hI.2.2.2.2.2.2.2, show k9 + (k7 - k9) = k7 by omega]) | (rw [show k7 + 1 - k9 = (k7 - k9) + 1 by omega, cv_s _ _ (by omega), if_pos (by omega)]) | grind [upI])
theorem vcX3_next_24 (s : MS) (hp : 0 ≤ (s.1 7) ∧ (s.1 7) ≤ (s.1 6) ∧ (s.1 6) ≤ 800) (k7 : Int) (k8 : Int) (k9 : Int) (k10 : Int) (k11 : Int) (hI : (0 ≤ k7 ∧ k7 ≤ s.1 6) ∧ plc (s.2 4) (s.1 6) k7 = plc (s.2 4) (s.1 6) (s.1 7)) (o_1 : (0 ≤ k7 ∧ (s.1 6) ≤ 800)) (c_3 : (bI (k7 < (s.1 6) ∧ (32 : Int) ≤ (s.2 4) k7 ∧ (s.2 4) k7 ≤ (32 : Int))) = 0) (c_5 : ¬ (bI (k7 < (s.1 6) ∧ (10 : Int) ≤ (s.2 4) k7 ∧ (s.2 4) k7 ≤ (10 : Int))) = 0) : (0 ≤ (i32 (k7 + 1)) ∧ (i32 (k7 + 1)) ≤ s.1 6) ∧ plc (s.2 4) (s.1 6) (i32 (k7 + 1)) = plc (s.2 4) (s.1 6) (s.1 7) := by
  (try simp only [bI_0, bI_n, Classical.not_not] at *)
  (try have hp7 : plc (s.2 4) (s.1 6) (s.1 7) = k7 := hI.2.symm.trans (adv_n (fun h => h.elim c_3 c_5)))
  (try have hk := tok_sign hp7 c_6 c_8 c_10)
  (try have he := tok_end hp7 c_6)
  (try have hw := tok_word hI.2.1 hI.2.2.1)
  (try have ha : adv (isB (s.2 4) (s.1 6) 97 122) k9 = k7 := hI.2.2.2.1.symm.trans (adv_n c_3))
  (try have hcb := cw_b (t := s.2 4) (q := k9) x1.toNat (by omega) (fun i a => hI.2.2.2.2.1 i (by omega)))
  (try have hcm : (27 : Int) ^ x1.toNat ≤ 5559060566555523 := Int.le_trans (pow_mono' (by omega) (n := 11) (by omega)) (by decide))
  (try have hn := tok_num hI.2.1 hI.2.2.1.1 hI.2.2.1.2)
  (try have ha : adv (isB (s.2 4) (s.1 6) 48 57) k9 = k7 := hI.2.2.2.1.symm.trans (adv_n c_3))
  (try have hcv := cv_b (t := s.2 4) (q := k9) (k7 - k9).toNat (fun i a => hI.2.2.2.2.1 i (by omega)))
  (try unfold lex3)
  (try simp only [bI_0, bI_n, Classical.not_not] at *)
  (try simp (disch := omega) only [i32_id] at *)
  first | done | omega | ((repeat' (with_reducible apply And.intro)) <;> first | assumption | rfl | omega | (rw [← hI.2]; exact (adv_y isWs_T (Or.inl c_3)).symm) | (rw [← hI.2]; exact (adv_y isWs_T (Or.inr c_5)).symm) | (exact hp7) | (exact hp7.symm) | (exact (hk.2.1 c_12).symm) | (exact (hk.1 c_12).symm) | (exact hk.2.2.1.symm) | (exact hk.2.2.2.2.symm) | (exact hk.2.2.2.1.symm) | (exact he.2.1.symm) | (exact he.1.symm) | (exact he.2.2.2.symm) | (exact he.2.2.1.symm) | (exact c_8) | (exact c_10) | (intro i hi; omega) | (rw [show (k7 - k7).toNat = 0 by omega]; rfl) | (exact hI.2.1) | (exact hI.2.1.symm) | (exact hI.2.2.1) | (exact hI.2.2.1.1) | (exact hI.2.2.1.2) | (rw [hw.2.1, ha]) | (rw [hw.1]; exact hI.2.2.2.2.2.1) | (rw [hw.2.2.2]; exact hI.2.2.2.2.2.2.1) | (rw [hw.2.2.1, ha, show k7 - k9 = x1 by omega]; exact hI.2.2.2.2.2.2.2) | (rw [hn.2.1, ha]) | (rw [hn.1]; exact hI.2.2.2.2.2.1) | (rw [hn.2.2.2]; exact hI.2.2.2.2.2.2.1) | (rw [hn.2.2.1, ha]; exact hI.2.2.2.2.2.2.2) | (rw [← hI.2.2.2.1]; exact (adv_y isB_T c_3).symm) | (intro i hi; by_cases e : (i : Int) = x1; (focus (rw [e, ← hI.1.2.1]; omega)); (focus (exact hI.2.2.2.2.1 i (by omega)))) | (intro i hi; by_cases e : (i : Int) = k7 - k9; (focus (rw [e, show k9 + (k7 - k9) = k7 by omega]; omega)); (focus (exact hI.2.2.2.2.1 i (by omega)))) | (rw [cw_s _ _ hI.1.1, if_neg (by omega), ← hI.2.2.2.2.2.2.2, ← hI.1.2.1, i64_id (x := 27 * k11) (by omega) (by omega), i64_id (x := 27 * k11 + s.2 4 k7) (by omega) (by omega), i64_id (by omega) (by omega)]) | (rw [cw_s _ _ hI.1.1, if_pos (by omega)]) | (rw [show k7 + 1 - k9 = (k7 - k9) + 1 by omega, cv_s _ _ (by omega), if_neg (by omega), ← hI.2.2.2.2.2.2.2, show k9 + (k7 - k9) = k7 by omega]) | (rw [show k7 + 1 - k9 = (k7 - k9) + 1 by omega, cv_s _ _ (by omega), if_pos (by omega)]) | grind [upI])
theorem vcX3_next_25 (s : MS) (hp : 0 ≤ (s.1 7) ∧ (s.1 7) ≤ (s.1 6) ∧ (s.1 6) ≤ 800) (k7 : Int) (k8 : Int) (k9 : Int) (k10 : Int) (k11 : Int) (hI : (0 ≤ k7 ∧ k7 ≤ s.1 6) ∧ plc (s.2 4) (s.1 6) k7 = plc (s.2 4) (s.1 6) (s.1 7)) (o_1 : (0 ≤ k7 ∧ (s.1 6) ≤ 800)) (c_3 : (bI (k7 < (s.1 6) ∧ (32 : Int) ≤ (s.2 4) k7 ∧ (s.2 4) k7 ≤ (32 : Int))) = 0) (c_5 : ¬ (bI (k7 < (s.1 6) ∧ (10 : Int) ≤ (s.2 4) k7 ∧ (s.2 4) k7 ≤ (10 : Int))) = 0) : lex3 0 2 ((s.1 6 - (i32 (k7 + 1))).toNat) 0 2 ((s.1 6 - k7).toNat) := by
  (try simp only [bI_0, bI_n, Classical.not_not] at *)
  (try have hp7 : plc (s.2 4) (s.1 6) (s.1 7) = k7 := hI.2.symm.trans (adv_n (fun h => h.elim c_3 c_5)))
  (try have hk := tok_sign hp7 c_6 c_8 c_10)
  (try have he := tok_end hp7 c_6)
  (try have hw := tok_word hI.2.1 hI.2.2.1)
  (try have ha : adv (isB (s.2 4) (s.1 6) 97 122) k9 = k7 := hI.2.2.2.1.symm.trans (adv_n c_3))
  (try have hcb := cw_b (t := s.2 4) (q := k9) x1.toNat (by omega) (fun i a => hI.2.2.2.2.1 i (by omega)))
  (try have hcm : (27 : Int) ^ x1.toNat ≤ 5559060566555523 := Int.le_trans (pow_mono' (by omega) (n := 11) (by omega)) (by decide))
  (try have hn := tok_num hI.2.1 hI.2.2.1.1 hI.2.2.1.2)
  (try have ha : adv (isB (s.2 4) (s.1 6) 48 57) k9 = k7 := hI.2.2.2.1.symm.trans (adv_n c_3))
  (try have hcv := cv_b (t := s.2 4) (q := k9) (k7 - k9).toNat (fun i a => hI.2.2.2.2.1 i (by omega)))
  (try unfold lex3)
  (try simp only [bI_0, bI_n, Classical.not_not] at *)
  (try simp (disch := omega) only [i32_id] at *)
  first | done | omega | ((repeat' (with_reducible apply And.intro)) <;> first | assumption | rfl | omega | (rw [← hI.2]; exact (adv_y isWs_T (Or.inl c_3)).symm) | (rw [← hI.2]; exact (adv_y isWs_T (Or.inr c_5)).symm) | (exact hp7) | (exact hp7.symm) | (exact (hk.2.1 c_12).symm) | (exact (hk.1 c_12).symm) | (exact hk.2.2.1.symm) | (exact hk.2.2.2.2.symm) | (exact hk.2.2.2.1.symm) | (exact he.2.1.symm) | (exact he.1.symm) | (exact he.2.2.2.symm) | (exact he.2.2.1.symm) | (exact c_8) | (exact c_10) | (intro i hi; omega) | (rw [show (k7 - k7).toNat = 0 by omega]; rfl) | (exact hI.2.1) | (exact hI.2.1.symm) | (exact hI.2.2.1) | (exact hI.2.2.1.1) | (exact hI.2.2.1.2) | (rw [hw.2.1, ha]) | (rw [hw.1]; exact hI.2.2.2.2.2.1) | (rw [hw.2.2.2]; exact hI.2.2.2.2.2.2.1) | (rw [hw.2.2.1, ha, show k7 - k9 = x1 by omega]; exact hI.2.2.2.2.2.2.2) | (rw [hn.2.1, ha]) | (rw [hn.1]; exact hI.2.2.2.2.2.1) | (rw [hn.2.2.2]; exact hI.2.2.2.2.2.2.1) | (rw [hn.2.2.1, ha]; exact hI.2.2.2.2.2.2.2) | (rw [← hI.2.2.2.1]; exact (adv_y isB_T c_3).symm) | (intro i hi; by_cases e : (i : Int) = x1; (focus (rw [e, ← hI.1.2.1]; omega)); (focus (exact hI.2.2.2.2.1 i (by omega)))) | (intro i hi; by_cases e : (i : Int) = k7 - k9; (focus (rw [e, show k9 + (k7 - k9) = k7 by omega]; omega)); (focus (exact hI.2.2.2.2.1 i (by omega)))) | (rw [cw_s _ _ hI.1.1, if_neg (by omega), ← hI.2.2.2.2.2.2.2, ← hI.1.2.1, i64_id (x := 27 * k11) (by omega) (by omega), i64_id (x := 27 * k11 + s.2 4 k7) (by omega) (by omega), i64_id (by omega) (by omega)]) | (rw [cw_s _ _ hI.1.1, if_pos (by omega)]) | (rw [show k7 + 1 - k9 = (k7 - k9) + 1 by omega, cv_s _ _ (by omega), if_neg (by omega), ← hI.2.2.2.2.2.2.2, show k9 + (k7 - k9) = k7 by omega]) | (rw [show k7 + 1 - k9 = (k7 - k9) + 1 by omega, cv_s _ _ (by omega), if_pos (by omega)]) | grind [upI])
theorem vcX3_next_26 (s : MS) (hp : 0 ≤ (s.1 7) ∧ (s.1 7) ≤ (s.1 6) ∧ (s.1 6) ≤ 800) (x1 : Int) (k7 : Int) (k8 : Int) (k9 : Int) (k10 : Int) (k11 : Int) (hI : (0 ≤ x1 ∧ k7 = k9 + x1 ∧ k7 ≤ s.1 6 ∧ 0 ≤ k9) ∧ plc (s.2 4) (s.1 6) (s.1 7) = k9 ∧ isB (s.2 4) (s.1 6) 97 122 k9 ∧ adv (isB (s.2 4) (s.1 6) 97 122) k7 = adv (isB (s.2 4) (s.1 6) 97 122) k9 ∧ (∀ i : Nat, i < x1 → 97 ≤ s.2 4 (k9 + i) ∧ s.2 4 (k9 + i) ≤ 122) ∧ k8 = 1 ∧ k10 = 0 ∧ k11 = cw (s.2 4) k9 x1.toNat) : (0 ≤ k7 ∧ (s.1 6) ≤ 800) := by
  (try simp only [bI_0, bI_n, Classical.not_not] at *)
  (try have hp7 : plc (s.2 4) (s.1 6) (s.1 7) = k7 := hI.2.symm.trans (adv_n (fun h => h.elim c_3 c_5)))
  (try have hk := tok_sign hp7 c_6 c_8 c_10)
  (try have he := tok_end hp7 c_6)
  (try have hw := tok_word hI.2.1 hI.2.2.1)
  (try have ha : adv (isB (s.2 4) (s.1 6) 97 122) k9 = k7 := hI.2.2.2.1.symm.trans (adv_n c_3))
  (try have hcb := cw_b (t := s.2 4) (q := k9) x1.toNat (by omega) (fun i a => hI.2.2.2.2.1 i (by omega)))
  (try have hcm : (27 : Int) ^ x1.toNat ≤ 5559060566555523 := Int.le_trans (pow_mono' (by omega) (n := 11) (by omega)) (by decide))
  (try have hn := tok_num hI.2.1 hI.2.2.1.1 hI.2.2.1.2)
  (try have ha : adv (isB (s.2 4) (s.1 6) 48 57) k9 = k7 := hI.2.2.2.1.symm.trans (adv_n c_3))
  (try have hcv := cv_b (t := s.2 4) (q := k9) (k7 - k9).toNat (fun i a => hI.2.2.2.2.1 i (by omega)))
  (try unfold lex3)
  (try simp only [bI_0, bI_n, Classical.not_not] at *)
  (try simp (disch := omega) only [i32_id] at *)
  first | done | omega | ((repeat' (with_reducible apply And.intro)) <;> first | assumption | rfl | omega | (rw [← hI.2]; exact (adv_y isWs_T (Or.inl c_3)).symm) | (rw [← hI.2]; exact (adv_y isWs_T (Or.inr c_5)).symm) | (exact hp7) | (exact hp7.symm) | (exact (hk.2.1 c_12).symm) | (exact (hk.1 c_12).symm) | (exact hk.2.2.1.symm) | (exact hk.2.2.2.2.symm) | (exact hk.2.2.2.1.symm) | (exact he.2.1.symm) | (exact he.1.symm) | (exact he.2.2.2.symm) | (exact he.2.2.1.symm) | (exact c_8) | (exact c_10) | (intro i hi; omega) | (rw [show (k7 - k7).toNat = 0 by omega]; rfl) | (exact hI.2.1) | (exact hI.2.1.symm) | (exact hI.2.2.1) | (exact hI.2.2.1.1) | (exact hI.2.2.1.2) | (rw [hw.2.1, ha]) | (rw [hw.1]; exact hI.2.2.2.2.2.1) | (rw [hw.2.2.2]; exact hI.2.2.2.2.2.2.1) | (rw [hw.2.2.1, ha, show k7 - k9 = x1 by omega]; exact hI.2.2.2.2.2.2.2) | (rw [hn.2.1, ha]) | (rw [hn.1]; exact hI.2.2.2.2.2.1) | (rw [hn.2.2.2]; exact hI.2.2.2.2.2.2.1) | (rw [hn.2.2.1, ha]; exact hI.2.2.2.2.2.2.2) | (rw [← hI.2.2.2.1]; exact (adv_y isB_T c_3).symm) | (intro i hi; by_cases e : (i : Int) = x1; (focus (rw [e, ← hI.1.2.1]; omega)); (focus (exact hI.2.2.2.2.1 i (by omega)))) | (intro i hi; by_cases e : (i : Int) = k7 - k9; (focus (rw [e, show k9 + (k7 - k9) = k7 by omega]; omega)); (focus (exact hI.2.2.2.2.1 i (by omega)))) | (rw [cw_s _ _ hI.1.1, if_neg (by omega), ← hI.2.2.2.2.2.2.2, ← hI.1.2.1, i64_id (x := 27 * k11) (by omega) (by omega), i64_id (x := 27 * k11 + s.2 4 k7) (by omega) (by omega), i64_id (by omega) (by omega)]) | (rw [cw_s _ _ hI.1.1, if_pos (by omega)]) | (rw [show k7 + 1 - k9 = (k7 - k9) + 1 by omega, cv_s _ _ (by omega), if_neg (by omega), ← hI.2.2.2.2.2.2.2, show k9 + (k7 - k9) = k7 by omega]) | (rw [show k7 + 1 - k9 = (k7 - k9) + 1 by omega, cv_s _ _ (by omega), if_pos (by omega)]) | grind [upI])
theorem vcX3_next_27 (s : MS) (hp : 0 ≤ (s.1 7) ∧ (s.1 7) ≤ (s.1 6) ∧ (s.1 6) ≤ 800) (x1 : Int) (k7 : Int) (k8 : Int) (k9 : Int) (k10 : Int) (k11 : Int) (hI : (0 ≤ x1 ∧ k7 = k9 + x1 ∧ k7 ≤ s.1 6 ∧ 0 ≤ k9) ∧ plc (s.2 4) (s.1 6) (s.1 7) = k9 ∧ isB (s.2 4) (s.1 6) 97 122 k9 ∧ adv (isB (s.2 4) (s.1 6) 97 122) k7 = adv (isB (s.2 4) (s.1 6) 97 122) k9 ∧ (∀ i : Nat, i < x1 → 97 ≤ s.2 4 (k9 + i) ∧ s.2 4 (k9 + i) ≤ 122) ∧ k8 = 1 ∧ k10 = 0 ∧ k11 = cw (s.2 4) k9 x1.toNat) (o_1 : (0 ≤ k7 ∧ (s.1 6) ≤ 800)) (c_3 : (bI (k7 < (s.1 6) ∧ (97 : Int) ≤ (s.2 4) k7 ∧ (s.2 4) k7 ≤ (122 : Int))) = 0) : k7 = (enx (s.2 4) (s.1 6) (s.1 7)) := by
  (try simp only [bI_0, bI_n, Classical.not_not] at *)
  (try have hp7 : plc (s.2 4) (s.1 6) (s.1 7) = k7 := hI.2.symm.trans (adv_n (fun h => h.elim c_3 c_5)))
  (try have hk := tok_sign hp7 c_6 c_8 c_10)
  (try have he := tok_end hp7 c_6)
  (try have hw := tok_word hI.2.1 hI.2.2.1)
  (try have ha : adv (isB (s.2 4) (s.1 6) 97 122) k9 = k7 := hI.2.2.2.1.symm.trans (adv_n c_3))
  (try have hcb := cw_b (t := s.2 4) (q := k9) x1.toNat (by omega) (fun i a => hI.2.2.2.2.1 i (by omega)))
  (try have hcm : (27 : Int) ^ x1.toNat ≤ 5559060566555523 := Int.le_trans (pow_mono' (by omega) (n := 11) (by omega)) (by decide))
  (try have hn := tok_num hI.2.1 hI.2.2.1.1 hI.2.2.1.2)
  (try have ha : adv (isB (s.2 4) (s.1 6) 48 57) k9 = k7 := hI.2.2.2.1.symm.trans (adv_n c_3))
  (try have hcv := cv_b (t := s.2 4) (q := k9) (k7 - k9).toNat (fun i a => hI.2.2.2.2.1 i (by omega)))
  (try unfold lex3)
  (try simp only [bI_0, bI_n, Classical.not_not] at *)
  (try simp (disch := omega) only [i32_id] at *)
  first | done | omega | ((repeat' (with_reducible apply And.intro)) <;> first | assumption | rfl | omega | (rw [← hI.2]; exact (adv_y isWs_T (Or.inl c_3)).symm) | (rw [← hI.2]; exact (adv_y isWs_T (Or.inr c_5)).symm) | (exact hp7) | (exact hp7.symm) | (exact (hk.2.1 c_12).symm) | (exact (hk.1 c_12).symm) | (exact hk.2.2.1.symm) | (exact hk.2.2.2.2.symm) | (exact hk.2.2.2.1.symm) | (exact he.2.1.symm) | (exact he.1.symm) | (exact he.2.2.2.symm) | (exact he.2.2.1.symm) | (exact c_8) | (exact c_10) | (intro i hi; omega) | (rw [show (k7 - k7).toNat = 0 by omega]; rfl) | (exact hI.2.1) | (exact hI.2.1.symm) | (exact hI.2.2.1) | (exact hI.2.2.1.1) | (exact hI.2.2.1.2) | (rw [hw.2.1, ha]) | (rw [hw.1]; exact hI.2.2.2.2.2.1) | (rw [hw.2.2.2]; exact hI.2.2.2.2.2.2.1) | (rw [hw.2.2.1, ha, show k7 - k9 = x1 by omega]; exact hI.2.2.2.2.2.2.2) | (rw [hn.2.1, ha]) | (rw [hn.1]; exact hI.2.2.2.2.2.1) | (rw [hn.2.2.2]; exact hI.2.2.2.2.2.2.1) | (rw [hn.2.2.1, ha]; exact hI.2.2.2.2.2.2.2) | (rw [← hI.2.2.2.1]; exact (adv_y isB_T c_3).symm) | (intro i hi; by_cases e : (i : Int) = x1; (focus (rw [e, ← hI.1.2.1]; omega)); (focus (exact hI.2.2.2.2.1 i (by omega)))) | (intro i hi; by_cases e : (i : Int) = k7 - k9; (focus (rw [e, show k9 + (k7 - k9) = k7 by omega]; omega)); (focus (exact hI.2.2.2.2.1 i (by omega)))) | (rw [cw_s _ _ hI.1.1, if_neg (by omega), ← hI.2.2.2.2.2.2.2, ← hI.1.2.1, i64_id (x := 27 * k11) (by omega) (by omega), i64_id (x := 27 * k11 + s.2 4 k7) (by omega) (by omega), i64_id (by omega) (by omega)]) | (rw [cw_s _ _ hI.1.1, if_pos (by omega)]) | (rw [show k7 + 1 - k9 = (k7 - k9) + 1 by omega, cv_s _ _ (by omega), if_neg (by omega), ← hI.2.2.2.2.2.2.2, show k9 + (k7 - k9) = k7 by omega]) | (rw [show k7 + 1 - k9 = (k7 - k9) + 1 by omega, cv_s _ _ (by omega), if_pos (by omega)]) | grind [upI])
theorem vcX3_next_28 (s : MS) (hp : 0 ≤ (s.1 7) ∧ (s.1 7) ≤ (s.1 6) ∧ (s.1 6) ≤ 800) (x1 : Int) (k7 : Int) (k8 : Int) (k9 : Int) (k10 : Int) (k11 : Int) (hI : (0 ≤ x1 ∧ k7 = k9 + x1 ∧ k7 ≤ s.1 6 ∧ 0 ≤ k9) ∧ plc (s.2 4) (s.1 6) (s.1 7) = k9 ∧ isB (s.2 4) (s.1 6) 97 122 k9 ∧ adv (isB (s.2 4) (s.1 6) 97 122) k7 = adv (isB (s.2 4) (s.1 6) 97 122) k9 ∧ (∀ i : Nat, i < x1 → 97 ≤ s.2 4 (k9 + i) ∧ s.2 4 (k9 + i) ≤ 122) ∧ k8 = 1 ∧ k10 = 0 ∧ k11 = cw (s.2 4) k9 x1.toNat) (o_1 : (0 ≤ k7 ∧ (s.1 6) ≤ 800)) (c_3 : (bI (k7 < (s.1 6) ∧ (97 : Int) ≤ (s.2 4) k7 ∧ (s.2 4) k7 ≤ (122 : Int))) = 0) : k8 = (knd (s.2 4) (s.1 6) (s.1 7)) := by
  (try simp only [bI_0, bI_n, Classical.not_not] at *)
  (try have hp7 : plc (s.2 4) (s.1 6) (s.1 7) = k7 := hI.2.symm.trans (adv_n (fun h => h.elim c_3 c_5)))
  (try have hk := tok_sign hp7 c_6 c_8 c_10)
  (try have he := tok_end hp7 c_6)
  (try have hw := tok_word hI.2.1 hI.2.2.1)
  (try have ha : adv (isB (s.2 4) (s.1 6) 97 122) k9 = k7 := hI.2.2.2.1.symm.trans (adv_n c_3))
  (try have hcb := cw_b (t := s.2 4) (q := k9) x1.toNat (by omega) (fun i a => hI.2.2.2.2.1 i (by omega)))
  (try have hcm : (27 : Int) ^ x1.toNat ≤ 5559060566555523 := Int.le_trans (pow_mono' (by omega) (n := 11) (by omega)) (by decide))
  (try have hn := tok_num hI.2.1 hI.2.2.1.1 hI.2.2.1.2)
  (try have ha : adv (isB (s.2 4) (s.1 6) 48 57) k9 = k7 := hI.2.2.2.1.symm.trans (adv_n c_3))
  (try have hcv := cv_b (t := s.2 4) (q := k9) (k7 - k9).toNat (fun i a => hI.2.2.2.2.1 i (by omega)))
  (try unfold lex3)
  (try simp only [bI_0, bI_n, Classical.not_not] at *)
  (try simp (disch := omega) only [i32_id] at *)
  first | done | omega | ((repeat' (with_reducible apply And.intro)) <;> first | assumption | rfl | omega | (rw [← hI.2]; exact (adv_y isWs_T (Or.inl c_3)).symm) | (rw [← hI.2]; exact (adv_y isWs_T (Or.inr c_5)).symm) | (exact hp7) | (exact hp7.symm) | (exact (hk.2.1 c_12).symm) | (exact (hk.1 c_12).symm) | (exact hk.2.2.1.symm) | (exact hk.2.2.2.2.symm) | (exact hk.2.2.2.1.symm) | (exact he.2.1.symm) | (exact he.1.symm) | (exact he.2.2.2.symm) | (exact he.2.2.1.symm) | (exact c_8) | (exact c_10) | (intro i hi; omega) | (rw [show (k7 - k7).toNat = 0 by omega]; rfl) | (exact hI.2.1) | (exact hI.2.1.symm) | (exact hI.2.2.1) | (exact hI.2.2.1.1) | (exact hI.2.2.1.2) | (rw [hw.2.1, ha]) | (rw [hw.1]; exact hI.2.2.2.2.2.1) | (rw [hw.2.2.2]; exact hI.2.2.2.2.2.2.1) | (rw [hw.2.2.1, ha, show k7 - k9 = x1 by omega]; exact hI.2.2.2.2.2.2.2) | (rw [hn.2.1, ha]) | (rw [hn.1]; exact hI.2.2.2.2.2.1) | (rw [hn.2.2.2]; exact hI.2.2.2.2.2.2.1) | (rw [hn.2.2.1, ha]; exact hI.2.2.2.2.2.2.2) | (rw [← hI.2.2.2.1]; exact (adv_y isB_T c_3).symm) | (intro i hi; by_cases e : (i : Int) = x1; (focus (rw [e, ← hI.1.2.1]; omega)); (focus (exact hI.2.2.2.2.1 i (by omega)))) | (intro i hi; by_cases e : (i : Int) = k7 - k9; (focus (rw [e, show k9 + (k7 - k9) = k7 by omega]; omega)); (focus (exact hI.2.2.2.2.1 i (by omega)))) | (rw [cw_s _ _ hI.1.1, if_neg (by omega), ← hI.2.2.2.2.2.2.2, ← hI.1.2.1, i64_id (x := 27 * k11) (by omega) (by omega), i64_id (x := 27 * k11 + s.2 4 k7) (by omega) (by omega), i64_id (by omega) (by omega)]) | (rw [cw_s _ _ hI.1.1, if_pos (by omega)]) | (rw [show k7 + 1 - k9 = (k7 - k9) + 1 by omega, cv_s _ _ (by omega), if_neg (by omega), ← hI.2.2.2.2.2.2.2, show k9 + (k7 - k9) = k7 by omega]) | (rw [show k7 + 1 - k9 = (k7 - k9) + 1 by omega, cv_s _ _ (by omega), if_pos (by omega)]) | grind [upI])
theorem vcX3_next_29 (s : MS) (hp : 0 ≤ (s.1 7) ∧ (s.1 7) ≤ (s.1 6) ∧ (s.1 6) ≤ 800) (x1 : Int) (k7 : Int) (k8 : Int) (k9 : Int) (k10 : Int) (k11 : Int) (hI : (0 ≤ x1 ∧ k7 = k9 + x1 ∧ k7 ≤ s.1 6 ∧ 0 ≤ k9) ∧ plc (s.2 4) (s.1 6) (s.1 7) = k9 ∧ isB (s.2 4) (s.1 6) 97 122 k9 ∧ adv (isB (s.2 4) (s.1 6) 97 122) k7 = adv (isB (s.2 4) (s.1 6) 97 122) k9 ∧ (∀ i : Nat, i < x1 → 97 ≤ s.2 4 (k9 + i) ∧ s.2 4 (k9 + i) ≤ 122) ∧ k8 = 1 ∧ k10 = 0 ∧ k11 = cw (s.2 4) k9 x1.toNat) (o_1 : (0 ≤ k7 ∧ (s.1 6) ≤ 800)) (c_3 : (bI (k7 < (s.1 6) ∧ (97 : Int) ≤ (s.2 4) k7 ∧ (s.2 4) k7 ≤ (122 : Int))) = 0) : k9 = (plc (s.2 4) (s.1 6) (s.1 7)) := by
  (try simp only [bI_0, bI_n, Classical.not_not] at *)
  (try have hp7 : plc (s.2 4) (s.1 6) (s.1 7) = k7 := hI.2.symm.trans (adv_n (fun h => h.elim c_3 c_5)))
  (try have hk := tok_sign hp7 c_6 c_8 c_10)
  (try have he := tok_end hp7 c_6)
  (try have hw := tok_word hI.2.1 hI.2.2.1)
  (try have ha : adv (isB (s.2 4) (s.1 6) 97 122) k9 = k7 := hI.2.2.2.1.symm.trans (adv_n c_3))
  (try have hcb := cw_b (t := s.2 4) (q := k9) x1.toNat (by omega) (fun i a => hI.2.2.2.2.1 i (by omega)))
  (try have hcm : (27 : Int) ^ x1.toNat ≤ 5559060566555523 := Int.le_trans (pow_mono' (by omega) (n := 11) (by omega)) (by decide))
  (try have hn := tok_num hI.2.1 hI.2.2.1.1 hI.2.2.1.2)
  (try have ha : adv (isB (s.2 4) (s.1 6) 48 57) k9 = k7 := hI.2.2.2.1.symm.trans (adv_n c_3))
  (try have hcv := cv_b (t := s.2 4) (q := k9) (k7 - k9).toNat (fun i a => hI.2.2.2.2.1 i (by omega)))
  (try unfold lex3)
  (try simp only [bI_0, bI_n, Classical.not_not] at *)
  (try simp (disch := omega) only [i32_id] at *)
  first | done | omega | ((repeat' (with_reducible apply And.intro)) <;> first | assumption | rfl | omega | (rw [← hI.2]; exact (adv_y isWs_T (Or.inl c_3)).symm) | (rw [← hI.2]; exact (adv_y isWs_T (Or.inr c_5)).symm) | (exact hp7) | (exact hp7.symm) | (exact (hk.2.1 c_12).symm) | (exact (hk.1 c_12).symm) | (exact hk.2.2.1.symm) | (exact hk.2.2.2.2.symm) | (exact hk.2.2.2.1.symm) | (exact he.2.1.symm) | (exact he.1.symm) | (exact he.2.2.2.symm) | (exact he.2.2.1.symm) | (exact c_8) | (exact c_10) | (intro i hi; omega) | (rw [show (k7 - k7).toNat = 0 by omega]; rfl) | (exact hI.2.1) | (exact hI.2.1.symm) | (exact hI.2.2.1) | (exact hI.2.2.1.1) | (exact hI.2.2.1.2) | (rw [hw.2.1, ha]) | (rw [hw.1]; exact hI.2.2.2.2.2.1) | (rw [hw.2.2.2]; exact hI.2.2.2.2.2.2.1) | (rw [hw.2.2.1, ha, show k7 - k9 = x1 by omega]; exact hI.2.2.2.2.2.2.2) | (rw [hn.2.1, ha]) | (rw [hn.1]; exact hI.2.2.2.2.2.1) | (rw [hn.2.2.2]; exact hI.2.2.2.2.2.2.1) | (rw [hn.2.2.1, ha]; exact hI.2.2.2.2.2.2.2) | (rw [← hI.2.2.2.1]; exact (adv_y isB_T c_3).symm) | (intro i hi; by_cases e : (i : Int) = x1; (focus (rw [e, ← hI.1.2.1]; omega)); (focus (exact hI.2.2.2.2.1 i (by omega)))) | (intro i hi; by_cases e : (i : Int) = k7 - k9; (focus (rw [e, show k9 + (k7 - k9) = k7 by omega]; omega)); (focus (exact hI.2.2.2.2.1 i (by omega)))) | (rw [cw_s _ _ hI.1.1, if_neg (by omega), ← hI.2.2.2.2.2.2.2, ← hI.1.2.1, i64_id (x := 27 * k11) (by omega) (by omega), i64_id (x := 27 * k11 + s.2 4 k7) (by omega) (by omega), i64_id (by omega) (by omega)]) | (rw [cw_s _ _ hI.1.1, if_pos (by omega)]) | (rw [show k7 + 1 - k9 = (k7 - k9) + 1 by omega, cv_s _ _ (by omega), if_neg (by omega), ← hI.2.2.2.2.2.2.2, show k9 + (k7 - k9) = k7 by omega]) | (rw [show k7 + 1 - k9 = (k7 - k9) + 1 by omega, cv_s _ _ (by omega), if_pos (by omega)]) | grind [upI])
theorem vcX3_next_30 (s : MS) (hp : 0 ≤ (s.1 7) ∧ (s.1 7) ≤ (s.1 6) ∧ (s.1 6) ≤ 800) (x1 : Int) (k7 : Int) (k8 : Int) (k9 : Int) (k10 : Int) (k11 : Int) (hI : (0 ≤ x1 ∧ k7 = k9 + x1 ∧ k7 ≤ s.1 6 ∧ 0 ≤ k9) ∧ plc (s.2 4) (s.1 6) (s.1 7) = k9 ∧ isB (s.2 4) (s.1 6) 97 122 k9 ∧ adv (isB (s.2 4) (s.1 6) 97 122) k7 = adv (isB (s.2 4) (s.1 6) 97 122) k9 ∧ (∀ i : Nat, i < x1 → 97 ≤ s.2 4 (k9 + i) ∧ s.2 4 (k9 + i) ≤ 122) ∧ k8 = 1 ∧ k10 = 0 ∧ k11 = cw (s.2 4) k9 x1.toNat) (o_1 : (0 ≤ k7 ∧ (s.1 6) ≤ 800)) (c_3 : (bI (k7 < (s.1 6) ∧ (97 : Int) ≤ (s.2 4) k7 ∧ (s.2 4) k7 ≤ (122 : Int))) = 0) : k10 = (vlu (s.2 4) (s.1 6) (s.1 7)) := by
  (try simp only [bI_0, bI_n, Classical.not_not] at *)
  (try have hp7 : plc (s.2 4) (s.1 6) (s.1 7) = k7 := hI.2.symm.trans (adv_n (fun h => h.elim c_3 c_5)))
  (try have hk := tok_sign hp7 c_6 c_8 c_10)
  (try have he := tok_end hp7 c_6)
  (try have hw := tok_word hI.2.1 hI.2.2.1)
  (try have ha : adv (isB (s.2 4) (s.1 6) 97 122) k9 = k7 := hI.2.2.2.1.symm.trans (adv_n c_3))
  (try have hcb := cw_b (t := s.2 4) (q := k9) x1.toNat (by omega) (fun i a => hI.2.2.2.2.1 i (by omega)))
  (try have hcm : (27 : Int) ^ x1.toNat ≤ 5559060566555523 := Int.le_trans (pow_mono' (by omega) (n := 11) (by omega)) (by decide))
  (try have hn := tok_num hI.2.1 hI.2.2.1.1 hI.2.2.1.2)
  (try have ha : adv (isB (s.2 4) (s.1 6) 48 57) k9 = k7 := hI.2.2.2.1.symm.trans (adv_n c_3))
  (try have hcv := cv_b (t := s.2 4) (q := k9) (k7 - k9).toNat (fun i a => hI.2.2.2.2.1 i (by omega)))
  (try unfold lex3)
  (try simp only [bI_0, bI_n, Classical.not_not] at *)
  (try simp (disch := omega) only [i32_id] at *)
  first | done | omega | ((repeat' (with_reducible apply And.intro)) <;> first | assumption | rfl | omega | (rw [← hI.2]; exact (adv_y isWs_T (Or.inl c_3)).symm) | (rw [← hI.2]; exact (adv_y isWs_T (Or.inr c_5)).symm) | (exact hp7) | (exact hp7.symm) | (exact (hk.2.1 c_12).symm) | (exact (hk.1 c_12).symm) | (exact hk.2.2.1.symm) | (exact hk.2.2.2.2.symm) | (exact hk.2.2.2.1.symm) | (exact he.2.1.symm) | (exact he.1.symm) | (exact he.2.2.2.symm) | (exact he.2.2.1.symm) | (exact c_8) | (exact c_10) | (intro i hi; omega) | (rw [show (k7 - k7).toNat = 0 by omega]; rfl) | (exact hI.2.1) | (exact hI.2.1.symm) | (exact hI.2.2.1) | (exact hI.2.2.1.1) | (exact hI.2.2.1.2) | (rw [hw.2.1, ha]) | (rw [hw.1]; exact hI.2.2.2.2.2.1) | (rw [hw.2.2.2]; exact hI.2.2.2.2.2.2.1) | (rw [hw.2.2.1, ha, show k7 - k9 = x1 by omega]; exact hI.2.2.2.2.2.2.2) | (rw [hn.2.1, ha]) | (rw [hn.1]; exact hI.2.2.2.2.2.1) | (rw [hn.2.2.2]; exact hI.2.2.2.2.2.2.1) | (rw [hn.2.2.1, ha]; exact hI.2.2.2.2.2.2.2) | (rw [← hI.2.2.2.1]; exact (adv_y isB_T c_3).symm) | (intro i hi; by_cases e : (i : Int) = x1; (focus (rw [e, ← hI.1.2.1]; omega)); (focus (exact hI.2.2.2.2.1 i (by omega)))) | (intro i hi; by_cases e : (i : Int) = k7 - k9; (focus (rw [e, show k9 + (k7 - k9) = k7 by omega]; omega)); (focus (exact hI.2.2.2.2.1 i (by omega)))) | (rw [cw_s _ _ hI.1.1, if_neg (by omega), ← hI.2.2.2.2.2.2.2, ← hI.1.2.1, i64_id (x := 27 * k11) (by omega) (by omega), i64_id (x := 27 * k11 + s.2 4 k7) (by omega) (by omega), i64_id (by omega) (by omega)]) | (rw [cw_s _ _ hI.1.1, if_pos (by omega)]) | (rw [show k7 + 1 - k9 = (k7 - k9) + 1 by omega, cv_s _ _ (by omega), if_neg (by omega), ← hI.2.2.2.2.2.2.2, show k9 + (k7 - k9) = k7 by omega]) | (rw [show k7 + 1 - k9 = (k7 - k9) + 1 by omega, cv_s _ _ (by omega), if_pos (by omega)]) | grind [upI])
theorem vcX3_next_31 (s : MS) (hp : 0 ≤ (s.1 7) ∧ (s.1 7) ≤ (s.1 6) ∧ (s.1 6) ≤ 800) (x1 : Int) (k7 : Int) (k8 : Int) (k9 : Int) (k10 : Int) (k11 : Int) (hI : (0 ≤ x1 ∧ k7 = k9 + x1 ∧ k7 ≤ s.1 6 ∧ 0 ≤ k9) ∧ plc (s.2 4) (s.1 6) (s.1 7) = k9 ∧ isB (s.2 4) (s.1 6) 97 122 k9 ∧ adv (isB (s.2 4) (s.1 6) 97 122) k7 = adv (isB (s.2 4) (s.1 6) 97 122) k9 ∧ (∀ i : Nat, i < x1 → 97 ≤ s.2 4 (k9 + i) ∧ s.2 4 (k9 + i) ≤ 122) ∧ k8 = 1 ∧ k10 = 0 ∧ k11 = cw (s.2 4) k9 x1.toNat) (o_1 : (0 ≤ k7 ∧ (s.1 6) ≤ 800)) (c_3 : (bI (k7 < (s.1 6) ∧ (97 : Int) ≤ (s.2 4) k7 ∧ (s.2 4) k7 ≤ (122 : Int))) = 0) : k11 = (wrd (s.2 4) (s.1 6) (s.1 7)) := by
  (try simp only [bI_0, bI_n, Classical.not_not] at *)
  (try have hp7 : plc (s.2 4) (s.1 6) (s.1 7) = k7 := hI.2.symm.trans (adv_n (fun h => h.elim c_3 c_5)))
  (try have hk := tok_sign hp7 c_6 c_8 c_10)
  (try have he := tok_end hp7 c_6)
  (try have hw := tok_word hI.2.1 hI.2.2.1)
  (try have ha : adv (isB (s.2 4) (s.1 6) 97 122) k9 = k7 := hI.2.2.2.1.symm.trans (adv_n c_3))
  (try have hcb := cw_b (t := s.2 4) (q := k9) x1.toNat (by omega) (fun i a => hI.2.2.2.2.1 i (by omega)))
  (try have hcm : (27 : Int) ^ x1.toNat ≤ 5559060566555523 := Int.le_trans (pow_mono' (by omega) (n := 11) (by omega)) (by decide))
  (try have hn := tok_num hI.2.1 hI.2.2.1.1 hI.2.2.1.2)
  (try have ha : adv (isB (s.2 4) (s.1 6) 48 57) k9 = k7 := hI.2.2.2.1.symm.trans (adv_n c_3))
  (try have hcv := cv_b (t := s.2 4) (q := k9) (k7 - k9).toNat (fun i a => hI.2.2.2.2.1 i (by omega)))
  (try unfold lex3)
  (try simp only [bI_0, bI_n, Classical.not_not] at *)
  (try simp (disch := omega) only [i32_id] at *)
  first | done | omega | ((repeat' (with_reducible apply And.intro)) <;> first | assumption | rfl | omega | (rw [← hI.2]; exact (adv_y isWs_T (Or.inl c_3)).symm) | (rw [← hI.2]; exact (adv_y isWs_T (Or.inr c_5)).symm) | (exact hp7) | (exact hp7.symm) | (exact (hk.2.1 c_12).symm) | (exact (hk.1 c_12).symm) | (exact hk.2.2.1.symm) | (exact hk.2.2.2.2.symm) | (exact hk.2.2.2.1.symm) | (exact he.2.1.symm) | (exact he.1.symm) | (exact he.2.2.2.symm) | (exact he.2.2.1.symm) | (exact c_8) | (exact c_10) | (intro i hi; omega) | (rw [show (k7 - k7).toNat = 0 by omega]; rfl) | (exact hI.2.1) | (exact hI.2.1.symm) | (exact hI.2.2.1) | (exact hI.2.2.1.1) | (exact hI.2.2.1.2) | (rw [hw.2.1, ha]) | (rw [hw.1]; exact hI.2.2.2.2.2.1) | (rw [hw.2.2.2]; exact hI.2.2.2.2.2.2.1) | (rw [hw.2.2.1, ha, show k7 - k9 = x1 by omega]; exact hI.2.2.2.2.2.2.2) | (rw [hn.2.1, ha]) | (rw [hn.1]; exact hI.2.2.2.2.2.1) | (rw [hn.2.2.2]; exact hI.2.2.2.2.2.2.1) | (rw [hn.2.2.1, ha]; exact hI.2.2.2.2.2.2.2) | (rw [← hI.2.2.2.1]; exact (adv_y isB_T c_3).symm) | (intro i hi; by_cases e : (i : Int) = x1; (focus (rw [e, ← hI.1.2.1]; omega)); (focus (exact hI.2.2.2.2.1 i (by omega)))) | (intro i hi; by_cases e : (i : Int) = k7 - k9; (focus (rw [e, show k9 + (k7 - k9) = k7 by omega]; omega)); (focus (exact hI.2.2.2.2.1 i (by omega)))) | (rw [cw_s _ _ hI.1.1, if_neg (by omega), ← hI.2.2.2.2.2.2.2, ← hI.1.2.1, i64_id (x := 27 * k11) (by omega) (by omega), i64_id (x := 27 * k11 + s.2 4 k7) (by omega) (by omega), i64_id (by omega) (by omega)]) | (rw [cw_s _ _ hI.1.1, if_pos (by omega)]) | (rw [show k7 + 1 - k9 = (k7 - k9) + 1 by omega, cv_s _ _ (by omega), if_neg (by omega), ← hI.2.2.2.2.2.2.2, show k9 + (k7 - k9) = k7 by omega]) | (rw [show k7 + 1 - k9 = (k7 - k9) + 1 by omega, cv_s _ _ (by omega), if_pos (by omega)]) | grind [upI])
theorem vcX3_next_32 (s : MS) (hp : 0 ≤ (s.1 7) ∧ (s.1 7) ≤ (s.1 6) ∧ (s.1 6) ≤ 800) (x1 : Int) (k7 : Int) (k8 : Int) (k9 : Int) (k10 : Int) (k11 : Int) (hI : (0 ≤ x1 ∧ k7 = k9 + x1 ∧ k7 ≤ s.1 6 ∧ 0 ≤ k9) ∧ plc (s.2 4) (s.1 6) (s.1 7) = k9 ∧ isB (s.2 4) (s.1 6) 97 122 k9 ∧ adv (isB (s.2 4) (s.1 6) 97 122) k7 = adv (isB (s.2 4) (s.1 6) 97 122) k9 ∧ (∀ i : Nat, i < x1 → 97 ≤ s.2 4 (k9 + i) ∧ s.2 4 (k9 + i) ≤ 122) ∧ k8 = 1 ∧ k10 = 0 ∧ k11 = cw (s.2 4) k9 x1.toNat) (o_1 : (0 ≤ k7 ∧ (s.1 6) ≤ 800)) (c_3 : ¬ (bI (k7 < (s.1 6) ∧ (97 : Int) ≤ (s.2 4) k7 ∧ (s.2 4) k7 ≤ (122 : Int))) = 0) (c_4 : x1 ≤ 11) : (0 ≤ k7 ∧ k7 < 800) := by
  (try simp only [bI_0, bI_n, Classical.not_not] at *)
  (try have hp7 : plc (s.2 4) (s.1 6) (s.1 7) = k7 := hI.2.symm.trans (adv_n (fun h => h.elim c_3 c_5)))
  (try have hk := tok_sign hp7 c_6 c_8 c_10)
  (try have he := tok_end hp7 c_6)
  (try have hw := tok_word hI.2.1 hI.2.2.1)
  (try have ha : adv (isB (s.2 4) (s.1 6) 97 122) k9 = k7 := hI.2.2.2.1.symm.trans (adv_n c_3))
  (try have hcb := cw_b (t := s.2 4) (q := k9) x1.toNat (by omega) (fun i a => hI.2.2.2.2.1 i (by omega)))
  (try have hcm : (27 : Int) ^ x1.toNat ≤ 5559060566555523 := Int.le_trans (pow_mono' (by omega) (n := 11) (by omega)) (by decide))
  (try have hn := tok_num hI.2.1 hI.2.2.1.1 hI.2.2.1.2)
  (try have ha : adv (isB (s.2 4) (s.1 6) 48 57) k9 = k7 := hI.2.2.2.1.symm.trans (adv_n c_3))
  (try have hcv := cv_b (t := s.2 4) (q := k9) (k7 - k9).toNat (fun i a => hI.2.2.2.2.1 i (by omega)))
  (try unfold lex3)
  (try simp only [bI_0, bI_n, Classical.not_not] at *)
  (try simp (disch := omega) only [i32_id] at *)
  first | done | omega | ((repeat' (with_reducible apply And.intro)) <;> first | assumption | rfl | omega | (rw [← hI.2]; exact (adv_y isWs_T (Or.inl c_3)).symm) | (rw [← hI.2]; exact (adv_y isWs_T (Or.inr c_5)).symm) | (exact hp7) | (exact hp7.symm) | (exact (hk.2.1 c_12).symm) | (exact (hk.1 c_12).symm) | (exact hk.2.2.1.symm) | (exact hk.2.2.2.2.symm) | (exact hk.2.2.2.1.symm) | (exact he.2.1.symm) | (exact he.1.symm) | (exact he.2.2.2.symm) | (exact he.2.2.1.symm) | (exact c_8) | (exact c_10) | (intro i hi; omega) | (rw [show (k7 - k7).toNat = 0 by omega]; rfl) | (exact hI.2.1) | (exact hI.2.1.symm) | (exact hI.2.2.1) | (exact hI.2.2.1.1) | (exact hI.2.2.1.2) | (rw [hw.2.1, ha]) | (rw [hw.1]; exact hI.2.2.2.2.2.1) | (rw [hw.2.2.2]; exact hI.2.2.2.2.2.2.1) | (rw [hw.2.2.1, ha, show k7 - k9 = x1 by omega]; exact hI.2.2.2.2.2.2.2) | (rw [hn.2.1, ha]) | (rw [hn.1]; exact hI.2.2.2.2.2.1) | (rw [hn.2.2.2]; exact hI.2.2.2.2.2.2.1) | (rw [hn.2.2.1, ha]; exact hI.2.2.2.2.2.2.2) | (rw [← hI.2.2.2.1]; exact (adv_y isB_T c_3).symm) | (intro i hi; by_cases e : (i : Int) = x1; (focus (rw [e, ← hI.1.2.1]; omega)); (focus (exact hI.2.2.2.2.1 i (by omega)))) | (intro i hi; by_cases e : (i : Int) = k7 - k9; (focus (rw [e, show k9 + (k7 - k9) = k7 by omega]; omega)); (focus (exact hI.2.2.2.2.1 i (by omega)))) | (rw [cw_s _ _ hI.1.1, if_neg (by omega), ← hI.2.2.2.2.2.2.2, ← hI.1.2.1, i64_id (x := 27 * k11) (by omega) (by omega), i64_id (x := 27 * k11 + s.2 4 k7) (by omega) (by omega), i64_id (by omega) (by omega)]) | (rw [cw_s _ _ hI.1.1, if_pos (by omega)]) | (rw [show k7 + 1 - k9 = (k7 - k9) + 1 by omega, cv_s _ _ (by omega), if_neg (by omega), ← hI.2.2.2.2.2.2.2, show k9 + (k7 - k9) = k7 by omega]) | (rw [show k7 + 1 - k9 = (k7 - k9) + 1 by omega, cv_s _ _ (by omega), if_pos (by omega)]) | grind [upI])
theorem vcX3_next_33 (s : MS) (hp : 0 ≤ (s.1 7) ∧ (s.1 7) ≤ (s.1 6) ∧ (s.1 6) ≤ 800) (x1 : Int) (k7 : Int) (k8 : Int) (k9 : Int) (k10 : Int) (k11 : Int) (hI : (0 ≤ x1 ∧ k7 = k9 + x1 ∧ k7 ≤ s.1 6 ∧ 0 ≤ k9) ∧ plc (s.2 4) (s.1 6) (s.1 7) = k9 ∧ isB (s.2 4) (s.1 6) 97 122 k9 ∧ adv (isB (s.2 4) (s.1 6) 97 122) k7 = adv (isB (s.2 4) (s.1 6) 97 122) k9 ∧ (∀ i : Nat, i < x1 → 97 ≤ s.2 4 (k9 + i) ∧ s.2 4 (k9 + i) ≤ 122) ∧ k8 = 1 ∧ k10 = 0 ∧ k11 = cw (s.2 4) k9 x1.toNat) (o_1 : (0 ≤ k7 ∧ (s.1 6) ≤ 800)) (c_3 : ¬ (bI (k7 < (s.1 6) ∧ (97 : Int) ≤ (s.2 4) k7 ∧ (s.2 4) k7 ≤ (122 : Int))) = 0) (c_4 : x1 ≤ 11) (o_5 : (0 ≤ k7 ∧ k7 < 800)) (c_6 : x1 ≤ 11) : (0 ≤ (i32 (x1 + 1)) ∧ (i32 (k7 + 1)) = k9 + (i32 (x1 + 1)) ∧ (i32 (k7 + 1)) ≤ s.1 6 ∧ 0 ≤ k9) ∧ plc (s.2 4) (s.1 6) (s.1 7) = k9 ∧ isB (s.2 4) (s.1 6) 97 122 k9 ∧ adv (isB (s.2 4) (s.1 6) 97 122) (i32 (k7 + 1)) = adv (isB (s.2 4) (s.1 6) 97 122) k9 ∧ (∀ i : Nat, i < (i32 (x1 + 1)) → 97 ≤ s.2 4 (k9 + i) ∧ s.2 4 (k9 + i) ≤ 122) ∧ k8 = 1 ∧ k10 = 0 ∧ (i64 ((i64 ((i64 (27 * k11)) + (s.2 4 k7))) - 96)) = cw (s.2 4) k9 (i32 (x1 + 1)).toNat := by
  (try simp only [bI_0, bI_n, Classical.not_not] at *)
  (try have hp7 : plc (s.2 4) (s.1 6) (s.1 7) = k7 := hI.2.symm.trans (adv_n (fun h => h.elim c_3 c_5)))
  (try have hk := tok_sign hp7 c_6 c_8 c_10)
  (try have he := tok_end hp7 c_6)
  (try have hw := tok_word hI.2.1 hI.2.2.1)
  (try have ha : adv (isB (s.2 4) (s.1 6) 97 122) k9 = k7 := hI.2.2.2.1.symm.trans (adv_n c_3))
  (try have hcb := cw_b (t := s.2 4) (q := k9) x1.toNat (by omega) (fun i a => hI.2.2.2.2.1 i (by omega)))
  (try have hcm : (27 : Int) ^ x1.toNat ≤ 5559060566555523 := Int.le_trans (pow_mono' (by omega) (n := 11) (by omega)) (by decide))
  (try have hn := tok_num hI.2.1 hI.2.2.1.1 hI.2.2.1.2)
  (try have ha : adv (isB (s.2 4) (s.1 6) 48 57) k9 = k7 := hI.2.2.2.1.symm.trans (adv_n c_3))
  (try have hcv := cv_b (t := s.2 4) (q := k9) (k7 - k9).toNat (fun i a => hI.2.2.2.2.1 i (by omega)))
  (try unfold lex3)
  (try simp only [bI_0, bI_n, Classical.not_not] at *)
  (try simp (disch := omega) only [i32_id] at *)
  first | done | omega | ((repeat' (with_reducible apply And.intro)) <;> first | assumption | rfl | omega | (rw [← hI.2]; exact (adv_y isWs_T (Or.inl c_3)).symm) | (rw [← hI.2]; exact (adv_y isWs_T (Or.inr c_5)).symm) | (exact hp7) | (exact hp7.symm) | (exact (hk.2.1 c_12).symm) | (exact (hk.1 c_12).symm) | (exact hk.2.2.1.symm) | (exact hk.2.2.2.2.symm) | (exact hk.2.2.2.1.symm) | (exact he.2.1.symm) | (exact he.1.symm) | (exact he.2.2.2.symm) | (exact he.2.2.1.symm) | (exact c_8) | (exact c_10) | (intro i hi; omega) | (rw [show (k7 - k7).toNat = 0 by omega]; rfl) | (exact hI.2.1) | (exact hI.2.1.symm) | (exact hI.2.2.1) | (exact hI.2.2.1.1) | (exact hI.2.2.1.2) | (rw [hw.2.1, ha]) | (rw [hw.1]; exact hI.2.2.2.2.2.1) | (rw [hw.2.2.2]; exact hI.2.2.2.2.2.2.1) | (rw [hw.2.2.1, ha, show k7 - k9 = x1 by omega]; exact hI.2.2.2.2.2.2.2) | (rw [hn.2.1, ha]) | (rw [hn.1]; exact hI.2.2.2.2.2.1) | (rw [hn.2.2.2]; exact hI.2.2.2.2.2.2.1) | (rw [hn.2.2.1, ha]; exact hI.2.2.2.2.2.2.2) | (rw [← hI.2.2.2.1]; exact (adv_y isB_T c_3).symm) | (intro i hi; by_cases e : (i : Int) = x1; (focus (rw [e, ← hI.1.2.1]; omega)); (focus (exact hI.2.2.2.2.1 i (by omega)))) | (intro i hi; by_cases e : (i : Int) = k7 - k9; (focus (rw [e, show k9 + (k7 - k9) = k7 by omega]; omega)); (focus (exact hI.2.2.2.2.1 i (by omega)))) | (rw [cw_s _ _ hI.1.1, if_neg (by omega), ← hI.2.2.2.2.2.2.2, ← hI.1.2.1, i64_id (x := 27 * k11) (by omega) (by omega), i64_id (x := 27 * k11 + s.2 4 k7) (by omega) (by omega), i64_id (by omega) (by omega)]) | (rw [cw_s _ _ hI.1.1, if_pos (by omega)]) | (rw [show k7 + 1 - k9 = (k7 - k9) + 1 by omega, cv_s _ _ (by omega), if_neg (by omega), ← hI.2.2.2.2.2.2.2, show k9 + (k7 - k9) = k7 by omega]) | (rw [show k7 + 1 - k9 = (k7 - k9) + 1 by omega, cv_s _ _ (by omega), if_pos (by omega)]) | grind [upI])
theorem vcX3_next_34 (s : MS) (hp : 0 ≤ (s.1 7) ∧ (s.1 7) ≤ (s.1 6) ∧ (s.1 6) ≤ 800) (x1 : Int) (k7 : Int) (k8 : Int) (k9 : Int) (k10 : Int) (k11 : Int) (hI : (0 ≤ x1 ∧ k7 = k9 + x1 ∧ k7 ≤ s.1 6 ∧ 0 ≤ k9) ∧ plc (s.2 4) (s.1 6) (s.1 7) = k9 ∧ isB (s.2 4) (s.1 6) 97 122 k9 ∧ adv (isB (s.2 4) (s.1 6) 97 122) k7 = adv (isB (s.2 4) (s.1 6) 97 122) k9 ∧ (∀ i : Nat, i < x1 → 97 ≤ s.2 4 (k9 + i) ∧ s.2 4 (k9 + i) ≤ 122) ∧ k8 = 1 ∧ k10 = 0 ∧ k11 = cw (s.2 4) k9 x1.toNat) (o_1 : (0 ≤ k7 ∧ (s.1 6) ≤ 800)) (c_3 : ¬ (bI (k7 < (s.1 6) ∧ (97 : Int) ≤ (s.2 4) k7 ∧ (s.2 4) k7 ≤ (122 : Int))) = 0) (c_4 : x1 ≤ 11) (o_5 : (0 ≤ k7 ∧ k7 < 800)) (c_6 : x1 ≤ 11) : lex3 0 1 ((s.1 6 - (i32 (k7 + 1))).toNat) 0 1 ((s.1 6 - k7).toNat) := by
  (try simp only [bI_0, bI_n, Classical.not_not] at *)
  (try have hp7 : plc (s.2 4) (s.1 6) (s.1 7) = k7 := hI.2.symm.trans (adv_n (fun h => h.elim c_3 c_5)))
  (try have hk := tok_sign hp7 c_6 c_8 c_10)
  (try have he := tok_end hp7 c_6)
  (try have hw := tok_word hI.2.1 hI.2.2.1)
  (try have ha : adv (isB (s.2 4) (s.1 6) 97 122) k9 = k7 := hI.2.2.2.1.symm.trans (adv_n c_3))
  (try have hcb := cw_b (t := s.2 4) (q := k9) x1.toNat (by omega) (fun i a => hI.2.2.2.2.1 i (by omega)))
  (try have hcm : (27 : Int) ^ x1.toNat ≤ 5559060566555523 := Int.le_trans (pow_mono' (by omega) (n := 11) (by omega)) (by decide))
  (try have hn := tok_num hI.2.1 hI.2.2.1.1 hI.2.2.1.2)
  (try have ha : adv (isB (s.2 4) (s.1 6) 48 57) k9 = k7 := hI.2.2.2.1.symm.trans (adv_n c_3))
  (try have hcv := cv_b (t := s.2 4) (q := k9) (k7 - k9).toNat (fun i a => hI.2.2.2.2.1 i (by omega)))
  (try unfold lex3)
  (try simp only [bI_0, bI_n, Classical.not_not] at *)
  (try simp (disch := omega) only [i32_id] at *)
  first | done | omega | ((repeat' (with_reducible apply And.intro)) <;> first | assumption | rfl | omega | (rw [← hI.2]; exact (adv_y isWs_T (Or.inl c_3)).symm) | (rw [← hI.2]; exact (adv_y isWs_T (Or.inr c_5)).symm) | (exact hp7) | (exact hp7.symm) | (exact (hk.2.1 c_12).symm) | (exact (hk.1 c_12).symm) | (exact hk.2.2.1.symm) | (exact hk.2.2.2.2.symm) | (exact hk.2.2.2.1.symm) | (exact he.2.1.symm) | (exact he.1.symm) | (exact he.2.2.2.symm) | (exact he.2.2.1.symm) | (exact c_8) | (exact c_10) | (intro i hi; omega) | (rw [show (k7 - k7).toNat = 0 by omega]; rfl) | (exact hI.2.1) | (exact hI.2.1.symm) | (exact hI.2.2.1) | (exact hI.2.2.1.1) | (exact hI.2.2.1.2) | (rw [hw.2.1, ha]) | (rw [hw.1]; exact hI.2.2.2.2.2.1) | (rw [hw.2.2.2]; exact hI.2.2.2.2.2.2.1) | (rw [hw.2.2.1, ha, show k7 - k9 = x1 by omega]; exact hI.2.2.2.2.2.2.2) | (rw [hn.2.1, ha]) | (rw [hn.1]; exact hI.2.2.2.2.2.1) | (rw [hn.2.2.2]; exact hI.2.2.2.2.2.2.1) | (rw [hn.2.2.1, ha]; exact hI.2.2.2.2.2.2.2) | (rw [← hI.2.2.2.1]; exact (adv_y isB_T c_3).symm) | (intro i hi; by_cases e : (i : Int) = x1; (focus (rw [e, ← hI.1.2.1]; omega)); (focus (exact hI.2.2.2.2.1 i (by omega)))) | (intro i hi; by_cases e : (i : Int) = k7 - k9; (focus (rw [e, show k9 + (k7 - k9) = k7 by omega]; omega)); (focus (exact hI.2.2.2.2.1 i (by omega)))) | (rw [cw_s _ _ hI.1.1, if_neg (by omega), ← hI.2.2.2.2.2.2.2, ← hI.1.2.1, i64_id (x := 27 * k11) (by omega) (by omega), i64_id (x := 27 * k11 + s.2 4 k7) (by omega) (by omega), i64_id (by omega) (by omega)]) | (rw [cw_s _ _ hI.1.1, if_pos (by omega)]) | (rw [show k7 + 1 - k9 = (k7 - k9) + 1 by omega, cv_s _ _ (by omega), if_neg (by omega), ← hI.2.2.2.2.2.2.2, show k9 + (k7 - k9) = k7 by omega]) | (rw [show k7 + 1 - k9 = (k7 - k9) + 1 by omega, cv_s _ _ (by omega), if_pos (by omega)]) | grind [upI])
theorem vcX3_next_35 (s : MS) (hp : 0 ≤ (s.1 7) ∧ (s.1 7) ≤ (s.1 6) ∧ (s.1 6) ≤ 800) (x1 : Int) (k7 : Int) (k8 : Int) (k9 : Int) (k10 : Int) (k11 : Int) (hI : (0 ≤ x1 ∧ k7 = k9 + x1 ∧ k7 ≤ s.1 6 ∧ 0 ≤ k9) ∧ plc (s.2 4) (s.1 6) (s.1 7) = k9 ∧ isB (s.2 4) (s.1 6) 97 122 k9 ∧ adv (isB (s.2 4) (s.1 6) 97 122) k7 = adv (isB (s.2 4) (s.1 6) 97 122) k9 ∧ (∀ i : Nat, i < x1 → 97 ≤ s.2 4 (k9 + i) ∧ s.2 4 (k9 + i) ≤ 122) ∧ k8 = 1 ∧ k10 = 0 ∧ k11 = cw (s.2 4) k9 x1.toNat) (o_1 : (0 ≤ k7 ∧ (s.1 6) ≤ 800)) (c_3 : ¬ (bI (k7 < (s.1 6) ∧ (97 : Int) ≤ (s.2 4) k7 ∧ (s.2 4) k7 ≤ (122 : Int))) = 0) (c_4 : x1 ≤ 11) (o_5 : (0 ≤ k7 ∧ k7 < 800)) (c_6 : ¬ x1 ≤ 11) : (0 ≤ (i32 (x1 + 1)) ∧ (i32 (k7 + 1)) = k9 + (i32 (x1 + 1)) ∧ (i32 (k7 + 1)) ≤ s.1 6 ∧ 0 ≤ k9) ∧ plc (s.2 4) (s.1 6) (s.1 7) = k9 ∧ isB (s.2 4) (s.1 6) 97 122 k9 ∧ adv (isB (s.2 4) (s.1 6) 97 122) (i32 (k7 + 1)) = adv (isB (s.2 4) (s.1 6) 97 122) k9 ∧ (∀ i : Nat, i < (i32 (x1 + 1)) → 97 ≤ s.2 4 (k9 + i) ∧ s.2 4 (k9 + i) ≤ 122) ∧ k8 = 1 ∧ k10 = 0 ∧ ((-1) : Int) = cw (s.2 4) k9 (i32 (x1 + 1)).toNat := by
  (try simp only [bI_0, bI_n, Classical.not_not] at *)
  (try have hp7 : plc (s.2 4) (s.1 6) (s.1 7) = k7 := hI.2.symm.trans (adv_n (fun h => h.elim c_3 c_5)))
  (try have hk := tok_sign hp7 c_6 c_8 c_10)
  (try have he := tok_end hp7 c_6)
  (try have hw := tok_word hI.2.1 hI.2.2.1)
  (try have ha : adv (isB (s.2 4) (s.1 6) 97 122) k9 = k7 := hI.2.2.2.1.symm.trans (adv_n c_3))
  (try have hcb := cw_b (t := s.2 4) (q := k9) x1.toNat (by omega) (fun i a => hI.2.2.2.2.1 i (by omega)))
  (try have hcm : (27 : Int) ^ x1.toNat ≤ 5559060566555523 := Int.le_trans (pow_mono' (by omega) (n := 11) (by omega)) (by decide))
  (try have hn := tok_num hI.2.1 hI.2.2.1.1 hI.2.2.1.2)
  (try have ha : adv (isB (s.2 4) (s.1 6) 48 57) k9 = k7 := hI.2.2.2.1.symm.trans (adv_n c_3))
  (try have hcv := cv_b (t := s.2 4) (q := k9) (k7 - k9).toNat (fun i a => hI.2.2.2.2.1 i (by omega)))
  (try unfold lex3)
  (try simp only [bI_0, bI_n, Classical.not_not] at *)
  (try simp (disch := omega) only [i32_id] at *)
  first | done | omega | ((repeat' (with_reducible apply And.intro)) <;> first | assumption | rfl | omega | (rw [← hI.2]; exact (adv_y isWs_T (Or.inl c_3)).symm) | (rw [← hI.2]; exact (adv_y isWs_T (Or.inr c_5)).symm) | (exact hp7) | (exact hp7.symm) | (exact (hk.2.1 c_12).symm) | (exact (hk.1 c_12).symm) | (exact hk.2.2.1.symm) | (exact hk.2.2.2.2.symm) | (exact hk.2.2.2.1.symm) | (exact he.2.1.symm) | (exact he.1.symm) | (exact he.2.2.2.symm) | (exact he.2.2.1.symm) | (exact c_8) | (exact c_10) | (intro i hi; omega) | (rw [show (k7 - k7).toNat = 0 by omega]; rfl) | (exact hI.2.1) | (exact hI.2.1.symm) | (exact hI.2.2.1) | (exact hI.2.2.1.1) | (exact hI.2.2.1.2) | (rw [hw.2.1, ha]) | (rw [hw.1]; exact hI.2.2.2.2.2.1) | (rw [hw.2.2.2]; exact hI.2.2.2.2.2.2.1) | (rw [hw.2.2.1, ha, show k7 - k9 = x1 by omega]; exact hI.2.2.2.2.2.2.2) | (rw [hn.2.1, ha]) | (rw [hn.1]; exact hI.2.2.2.2.2.1) | (rw [hn.2.2.2]; exact hI.2.2.2.2.2.2.1) | (rw [hn.2.2.1, ha]; exact hI.2.2.2.2.2.2.2) | (rw [← hI.2.2.2.1]; exact (adv_y isB_T c_3).symm) | (intro i hi; by_cases e : (i : Int) = x1; (focus (rw [e, ← hI.1.2.1]; omega)); (focus (exact hI.2.2.2.2.1 i (by omega)))) | (intro i hi; by_cases e : (i : Int) = k7 - k9; (focus (rw [e, show k9 + (k7 - k9) = k7 by omega]; omega)); (focus (exact hI.2.2.2.2.1 i (by omega)))) | (rw [cw_s _ _ hI.1.1, if_neg (by omega), ← hI.2.2.2.2.2.2.2, ← hI.1.2.1, i64_id (x := 27 * k11) (by omega) (by omega), i64_id (x := 27 * k11 + s.2 4 k7) (by omega) (by omega), i64_id (by omega) (by omega)]) | (rw [cw_s _ _ hI.1.1, if_pos (by omega)]) | (rw [show k7 + 1 - k9 = (k7 - k9) + 1 by omega, cv_s _ _ (by omega), if_neg (by omega), ← hI.2.2.2.2.2.2.2, show k9 + (k7 - k9) = k7 by omega]) | (rw [show k7 + 1 - k9 = (k7 - k9) + 1 by omega, cv_s _ _ (by omega), if_pos (by omega)]) | grind [upI])
theorem vcX3_next_36 (s : MS) (hp : 0 ≤ (s.1 7) ∧ (s.1 7) ≤ (s.1 6) ∧ (s.1 6) ≤ 800) (x1 : Int) (k7 : Int) (k8 : Int) (k9 : Int) (k10 : Int) (k11 : Int) (hI : (0 ≤ x1 ∧ k7 = k9 + x1 ∧ k7 ≤ s.1 6 ∧ 0 ≤ k9) ∧ plc (s.2 4) (s.1 6) (s.1 7) = k9 ∧ isB (s.2 4) (s.1 6) 97 122 k9 ∧ adv (isB (s.2 4) (s.1 6) 97 122) k7 = adv (isB (s.2 4) (s.1 6) 97 122) k9 ∧ (∀ i : Nat, i < x1 → 97 ≤ s.2 4 (k9 + i) ∧ s.2 4 (k9 + i) ≤ 122) ∧ k8 = 1 ∧ k10 = 0 ∧ k11 = cw (s.2 4) k9 x1.toNat) (o_1 : (0 ≤ k7 ∧ (s.1 6) ≤ 800)) (c_3 : ¬ (bI (k7 < (s.1 6) ∧ (97 : Int) ≤ (s.2 4) k7 ∧ (s.2 4) k7 ≤ (122 : Int))) = 0) (c_4 : x1 ≤ 11) (o_5 : (0 ≤ k7 ∧ k7 < 800)) (c_6 : ¬ x1 ≤ 11) : lex3 0 1 ((s.1 6 - (i32 (k7 + 1))).toNat) 0 1 ((s.1 6 - k7).toNat) := by
  (try simp only [bI_0, bI_n, Classical.not_not] at *)
  (try have hp7 : plc (s.2 4) (s.1 6) (s.1 7) = k7 := hI.2.symm.trans (adv_n (fun h => h.elim c_3 c_5)))
  (try have hk := tok_sign hp7 c_6 c_8 c_10)
  (try have he := tok_end hp7 c_6)
  (try have hw := tok_word hI.2.1 hI.2.2.1)
  (try have ha : adv (isB (s.2 4) (s.1 6) 97 122) k9 = k7 := hI.2.2.2.1.symm.trans (adv_n c_3))
  (try have hcb := cw_b (t := s.2 4) (q := k9) x1.toNat (by omega) (fun i a => hI.2.2.2.2.1 i (by omega)))
  (try have hcm : (27 : Int) ^ x1.toNat ≤ 5559060566555523 := Int.le_trans (pow_mono' (by omega) (n := 11) (by omega)) (by decide))
  (try have hn := tok_num hI.2.1 hI.2.2.1.1 hI.2.2.1.2)
  (try have ha : adv (isB (s.2 4) (s.1 6) 48 57) k9 = k7 := hI.2.2.2.1.symm.trans (adv_n c_3))
  (try have hcv := cv_b (t := s.2 4) (q := k9) (k7 - k9).toNat (fun i a => hI.2.2.2.2.1 i (by omega)))
  (try unfold lex3)
  (try simp only [bI_0, bI_n, Classical.not_not] at *)
  (try simp (disch := omega) only [i32_id] at *)
  first | done | omega | ((repeat' (with_reducible apply And.intro)) <;> first | assumption | rfl | omega | (rw [← hI.2]; exact (adv_y isWs_T (Or.inl c_3)).symm) | (rw [← hI.2]; exact (adv_y isWs_T (Or.inr c_5)).symm) | (exact hp7) | (exact hp7.symm) | (exact (hk.2.1 c_12).symm) | (exact (hk.1 c_12).symm) | (exact hk.2.2.1.symm) | (exact hk.2.2.2.2.symm) | (exact hk.2.2.2.1.symm) | (exact he.2.1.symm) | (exact he.1.symm) | (exact he.2.2.2.symm) | (exact he.2.2.1.symm) | (exact c_8) | (exact c_10) | (intro i hi; omega) | (rw [show (k7 - k7).toNat = 0 by omega]; rfl) | (exact hI.2.1) | (exact hI.2.1.symm) | (exact hI.2.2.1) | (exact hI.2.2.1.1) | (exact hI.2.2.1.2) | (rw [hw.2.1, ha]) | (rw [hw.1]; exact hI.2.2.2.2.2.1) | (rw [hw.2.2.2]; exact hI.2.2.2.2.2.2.1) | (rw [hw.2.2.1, ha, show k7 - k9 = x1 by omega]; exact hI.2.2.2.2.2.2.2) | (rw [hn.2.1, ha]) | (rw [hn.1]; exact hI.2.2.2.2.2.1) | (rw [hn.2.2.2]; exact hI.2.2.2.2.2.2.1) | (rw [hn.2.2.1, ha]; exact hI.2.2.2.2.2.2.2) | (rw [← hI.2.2.2.1]; exact (adv_y isB_T c_3).symm) | (intro i hi; by_cases e : (i : Int) = x1; (focus (rw [e, ← hI.1.2.1]; omega)); (focus (exact hI.2.2.2.2.1 i (by omega)))) | (intro i hi; by_cases e : (i : Int) = k7 - k9; (focus (rw [e, show k9 + (k7 - k9) = k7 by omega]; omega)); (focus (exact hI.2.2.2.2.1 i (by omega)))) | (rw [cw_s _ _ hI.1.1, if_neg (by omega), ← hI.2.2.2.2.2.2.2, ← hI.1.2.1, i64_id (x := 27 * k11) (by omega) (by omega), i64_id (x := 27 * k11 + s.2 4 k7) (by omega) (by omega), i64_id (by omega) (by omega)]) | (rw [cw_s _ _ hI.1.1, if_pos (by omega)]) | (rw [show k7 + 1 - k9 = (k7 - k9) + 1 by omega, cv_s _ _ (by omega), if_neg (by omega), ← hI.2.2.2.2.2.2.2, show k9 + (k7 - k9) = k7 by omega]) | (rw [show k7 + 1 - k9 = (k7 - k9) + 1 by omega, cv_s _ _ (by omega), if_pos (by omega)]) | grind [upI])
theorem vcX3_next_37 (s : MS) (hp : 0 ≤ (s.1 7) ∧ (s.1 7) ≤ (s.1 6) ∧ (s.1 6) ≤ 800) (x1 : Int) (k7 : Int) (k8 : Int) (k9 : Int) (k10 : Int) (k11 : Int) (hI : (0 ≤ x1 ∧ k7 = k9 + x1 ∧ k7 ≤ s.1 6 ∧ 0 ≤ k9) ∧ plc (s.2 4) (s.1 6) (s.1 7) = k9 ∧ isB (s.2 4) (s.1 6) 97 122 k9 ∧ adv (isB (s.2 4) (s.1 6) 97 122) k7 = adv (isB (s.2 4) (s.1 6) 97 122) k9 ∧ (∀ i : Nat, i < x1 → 97 ≤ s.2 4 (k9 + i) ∧ s.2 4 (k9 + i) ≤ 122) ∧ k8 = 1 ∧ k10 = 0 ∧ k11 = cw (s.2 4) k9 x1.toNat) (o_1 : (0 ≤ k7 ∧ (s.1 6) ≤ 800)) (c_3 : ¬ (bI (k7 < (s.1 6) ∧ (97 : Int) ≤ (s.2 4) k7 ∧ (s.2 4) k7 ≤ (122 : Int))) = 0) (c_4 : ¬ x1 ≤ 11) (c_7 : x1 ≤ 11) : (0 ≤ (i32 (x1 + 1)) ∧ (i32 (k7 + 1)) = k9 + (i32 (x1 + 1)) ∧ (i32 (k7 + 1)) ≤ s.1 6 ∧ 0 ≤ k9) ∧ plc (s.2 4) (s.1 6) (s.1 7) = k9 ∧ isB (s.2 4) (s.1 6) 97 122 k9 ∧ adv (isB (s.2 4) (s.1 6) 97 122) (i32 (k7 + 1)) = adv (isB (s.2 4) (s.1 6) 97 122) k9 ∧ (∀ i : Nat, i < (i32 (x1 + 1)) → 97 ≤ s.2 4 (k9 + i) ∧ s.2 4 (k9 + i) ≤ 122) ∧ k8 = 1 ∧ k10 = 0 ∧ ((-1) : Int) = cw (s.2 4) k9 (i32 (x1 + 1)).toNat := by
  (try simp only [bI_0, bI_n, Classical.not_not] at *)
  (try have hp7 : plc (s.2 4) (s.1 6) (s.1 7) = k7 := hI.2.symm.trans (adv_n (fun h => h.elim c_3 c_5)))
  (try have hk := tok_sign hp7 c_6 c_8 c_10)
  (try have he := tok_end hp7 c_6)
  (try have hw := tok_word hI.2.1 hI.2.2.1)
  (try have ha : adv (isB (s.2 4) (s.1 6) 97 122) k9 = k7 := hI.2.2.2.1.symm.trans (adv_n c_3))
  (try have hcb := cw_b (t := s.2 4) (q := k9) x1.toNat (by omega) (fun i a => hI.2.2.2.2.1 i (by omega)))
  (try have hcm : (27 : Int) ^ x1.toNat ≤ 5559060566555523 := Int.le_trans (pow_mono' (by omega) (n := 11) (by omega)) (by decide))
  (try have hn := tok_num hI.2.1 hI.2.2.1.1 hI.2.2.1.2)
  (try have ha : adv (isB (s.2 4) (s.1 6) 48 57) k9 = k7 := hI.2.2.2.1.symm.trans (adv_n c_3))
  (try have hcv := cv_b (t := s.2 4) (q := k9) (k7 - k9).toNat (fun i a => hI.2.2.2.2.1 i (by omega)))
  (try unfold lex3)
  (try simp only [bI_0, bI_n, Classical.not_not] at *)
  (try simp (disch := omega) only [i32_id] at *)
  first | done | omega | ((repeat' (with_reducible apply And.intro)) <;> first | assumption | rfl | omega | (rw [← hI.2]; exact (adv_y isWs_T (Or.inl c_3)).symm) | (rw [← hI.2]; exact (adv_y isWs_T (Or.inr c_5)).symm) | (exact hp7) | (exact hp7.symm) | (exact (hk.2.1 c_12).symm) | (exact (hk.1 c_12).symm) | (exact hk.2.2.1.symm) | (exact hk.2.2.2.2.symm) | (exact hk.2.2.2.1.symm) | (exact he.2.1.symm) | (exact he.1.symm) | (exact he.2.2.2.symm) | (exact he.2.2.1.symm) | (exact c_8) | (exact c_10) | (intro i hi; omega) | (rw [show (k7 - k7).toNat = 0 by omega]; rfl) | (exact hI.2.1) | (exact hI.2.1.symm) | (exact hI.2.2.1) | (exact hI.2.2.1.1) | (exact hI.2.2.1.2) | (rw [hw.2.1, ha]) | (rw [hw.1]; exact hI.2.2.2.2.2.1) | (rw [hw.2.2.2]; exact hI.2.2.2.2.2.2.1) | (rw [hw.2.2.1, ha, show k7 - k9 = x1 by omega]; exact hI.2.2.2.2.2.2.2) | (rw [hn.2.1, ha]) | (rw [hn.1]; exact hI.2.2.2.2.2.1) | (rw [hn.2.2.2]; exact hI.2.2.2.2.2.2.1) | (rw [hn.2.2.1, ha]; exact hI.2.2.2.2.2.2.2) | (rw [← hI.2.2.2.1]; exact (adv_y isB_T c_3).symm) | (intro i hi; by_cases e : (i : Int) = x1; (focus (rw [e, ← hI.1.2.1]; omega)); (focus (exact hI.2.2.2.2.1 i (by omega)))) | (intro i hi; by_cases e : (i : Int) = k7 - k9; (focus (rw [e, show k9 + (k7 - k9) = k7 by omega]; omega)); (focus (exact hI.2.2.2.2.1 i (by omega)))) | (rw [cw_s _ _ hI.1.1, if_neg (by omega), ← hI.2.2.2.2.2.2.2, ← hI.1.2.1, i64_id (x := 27 * k11) (by omega) (by omega), i64_id (x := 27 * k11 + s.2 4 k7) (by omega) (by omega), i64_id (by omega) (by omega)]) | (rw [cw_s _ _ hI.1.1, if_pos (by omega)]) | (rw [show k7 + 1 - k9 = (k7 - k9) + 1 by omega, cv_s _ _ (by omega), if_neg (by omega), ← hI.2.2.2.2.2.2.2, show k9 + (k7 - k9) = k7 by omega]) | (rw [show k7 + 1 - k9 = (k7 - k9) + 1 by omega, cv_s _ _ (by omega), if_pos (by omega)]) | grind [upI])
theorem vcX3_next_38 (s : MS) (hp : 0 ≤ (s.1 7) ∧ (s.1 7) ≤ (s.1 6) ∧ (s.1 6) ≤ 800) (x1 : Int) (k7 : Int) (k8 : Int) (k9 : Int) (k10 : Int) (k11 : Int) (hI : (0 ≤ x1 ∧ k7 = k9 + x1 ∧ k7 ≤ s.1 6 ∧ 0 ≤ k9) ∧ plc (s.2 4) (s.1 6) (s.1 7) = k9 ∧ isB (s.2 4) (s.1 6) 97 122 k9 ∧ adv (isB (s.2 4) (s.1 6) 97 122) k7 = adv (isB (s.2 4) (s.1 6) 97 122) k9 ∧ (∀ i : Nat, i < x1 → 97 ≤ s.2 4 (k9 + i) ∧ s.2 4 (k9 + i) ≤ 122) ∧ k8 = 1 ∧ k10 = 0 ∧ k11 = cw (s.2 4) k9 x1.toNat) (o_1 : (0 ≤ k7 ∧ (s.1 6) ≤ 800)) (c_3 : ¬ (bI (k7 < (s.1 6) ∧ (97 : Int) ≤ (s.2 4) k7 ∧ (s.2 4) k7 ≤ (122 : Int))) = 0) (c_4 : ¬ x1 ≤ 11) (c_7 : x1 ≤ 11) : lex3 0 1 ((s.1 6 - (i32 (k7 + 1))).toNat) 0 1 ((s.1 6 - k7).toNat) := by
  (try simp only [bI_0, bI_n, Classical.not_not] at *)
  (try have hp7 : plc (s.2 4) (s.1 6) (s.1 7) = k7 := hI.2.symm.trans (adv_n (fun h => h.elim c_3 c_5)))
  (try have hk := tok_sign hp7 c_6 c_8 c_10)
  (try have he := tok_end hp7 c_6)
  (try have hw := tok_word hI.2.1 hI.2.2.1)
  (try have ha : adv (isB (s.2 4) (s.1 6) 97 122) k9 = k7 := hI.2.2.2.1.symm.trans (adv_n c_3))
  (try have hcb := cw_b (t := s.2 4) (q := k9) x1.toNat (by omega) (fun i a => hI.2.2.2.2.1 i (by omega)))
  (try have hcm : (27 : Int) ^ x1.toNat ≤ 5559060566555523 := Int.le_trans (pow_mono' (by omega) (n := 11) (by omega)) (by decide))
  (try have hn := tok_num hI.2.1 hI.2.2.1.1 hI.2.2.1.2)
  (try have ha : adv (isB (s.2 4) (s.1 6) 48 57) k9 = k7 := hI.2.2.2.1.symm.trans (adv_n c_3))
  (try have hcv := cv_b (t := s.2 4) (q := k9) (k7 - k9).toNat (fun i a => hI.2.2.2.2.1 i (by omega)))
  (try unfold lex3)
  (try simp only [bI_0, bI_n, Classical.not_not] at *)
  (try simp (disch := omega) only [i32_id] at *)
  first | done | omega | ((repeat' (with_reducible apply And.intro)) <;> first | assumption | rfl | omega | (rw [← hI.2]; exact (adv_y isWs_T (Or.inl c_3)).symm) | (rw [← hI.2]; exact (adv_y isWs_T (Or.inr c_5)).symm) | (exact hp7) | (exact hp7.symm) | (exact (hk.2.1 c_12).symm) | (exact (hk.1 c_12).symm) | (exact hk.2.2.1.symm) | (exact hk.2.2.2.2.symm) | (exact hk.2.2.2.1.symm) | (exact he.2.1.symm) | (exact he.1.symm) | (exact he.2.2.2.symm) | (exact he.2.2.1.symm) | (exact c_8) | (exact c_10) | (intro i hi; omega) | (rw [show (k7 - k7).toNat = 0 by omega]; rfl) | (exact hI.2.1) | (exact hI.2.1.symm) | (exact hI.2.2.1) | (exact hI.2.2.1.1) | (exact hI.2.2.1.2) | (rw [hw.2.1, ha]) | (rw [hw.1]; exact hI.2.2.2.2.2.1) | (rw [hw.2.2.2]; exact hI.2.2.2.2.2.2.1) | (rw [hw.2.2.1, ha, show k7 - k9 = x1 by omega]; exact hI.2.2.2.2.2.2.2) | (rw [hn.2.1, ha]) | (rw [hn.1]; exact hI.2.2.2.2.2.1) | (rw [hn.2.2.2]; exact hI.2.2.2.2.2.2.1) | (rw [hn.2.2.1, ha]; exact hI.2.2.2.2.2.2.2) | (rw [← hI.2.2.2.1]; exact (adv_y isB_T c_3).symm) | (intro i hi; by_cases e : (i : Int) = x1; (focus (rw [e, ← hI.1.2.1]; omega)); (focus (exact hI.2.2.2.2.1 i (by omega)))) | (intro i hi; by_cases e : (i : Int) = k7 - k9; (focus (rw [e, show k9 + (k7 - k9) = k7 by omega]; omega)); (focus (exact hI.2.2.2.2.1 i (by omega)))) | (rw [cw_s _ _ hI.1.1, if_neg (by omega), ← hI.2.2.2.2.2.2.2, ← hI.1.2.1, i64_id (x := 27 * k11) (by omega) (by omega), i64_id (x := 27 * k11 + s.2 4 k7) (by omega) (by omega), i64_id (by omega) (by omega)]) | (rw [cw_s _ _ hI.1.1, if_pos (by omega)]) | (rw [show k7 + 1 - k9 = (k7 - k9) + 1 by omega, cv_s _ _ (by omega), if_neg (by omega), ← hI.2.2.2.2.2.2.2, show k9 + (k7 - k9) = k7 by omega]) | (rw [show k7 + 1 - k9 = (k7 - k9) + 1 by omega, cv_s _ _ (by omega), if_pos (by omega)]) | grind [upI])
theorem vcX3_next_39 (s : MS) (hp : 0 ≤ (s.1 7) ∧ (s.1 7) ≤ (s.1 6) ∧ (s.1 6) ≤ 800) (x1 : Int) (k7 : Int) (k8 : Int) (k9 : Int) (k10 : Int) (k11 : Int) (hI : (0 ≤ x1 ∧ k7 = k9 + x1 ∧ k7 ≤ s.1 6 ∧ 0 ≤ k9) ∧ plc (s.2 4) (s.1 6) (s.1 7) = k9 ∧ isB (s.2 4) (s.1 6) 97 122 k9 ∧ adv (isB (s.2 4) (s.1 6) 97 122) k7 = adv (isB (s.2 4) (s.1 6) 97 122) k9 ∧ (∀ i : Nat, i < x1 → 97 ≤ s.2 4 (k9 + i) ∧ s.2 4 (k9 + i) ≤ 122) ∧ k8 = 1 ∧ k10 = 0 ∧ k11 = cw (s.2 4) k9 x1.toNat) (o_1 : (0 ≤ k7 ∧ (s.1 6) ≤ 800)) (c_3 : ¬ (bI (k7 < (s.1 6) ∧ (97 : Int) ≤ (s.2 4) k7 ∧ (s.2 4) k7 ≤ (122 : Int))) = 0) (c_4 : ¬ x1 ≤ 11) (c_7 : ¬ x1 ≤ 11) : (0 ≤ (i32 (x1 + 1)) ∧ (i32 (k7 + 1)) = k9 + (i32 (x1 + 1)) ∧ (i32 (k7 + 1)) ≤ s.1 6 ∧ 0 ≤ k9) ∧ plc (s.2 4) (s.1 6) (s.1 7) = k9 ∧ isB (s.2 4) (s.1 6) 97 122 k9 ∧ adv (isB (s.2 4) (s.1 6) 97 122) (i32 (k7 + 1)) = adv (isB (s.2 4) (s.1 6) 97 122) k9 ∧ (∀ i : Nat, i < (i32 (x1 + 1)) → 97 ≤ s.2 4 (k9 + i) ∧ s.2 4 (k9 + i) ≤ 122) ∧ k8 = 1 ∧ k10 = 0 ∧ ((-1) : Int) = cw (s.2 4) k9 (i32 (x1 + 1)).toNat := by
  (try simp only [bI_0, bI_n, Classical.not_not] at *)
  (try have hp7 : plc (s.2 4) (s.1 6) (s.1 7) = k7 := hI.2.symm.trans (adv_n (fun h => h.elim c_3 c_5)))
  (try have hk := tok_sign hp7 c_6 c_8 c_10)
  (try have he := tok_end hp7 c_6)
  (try have hw := tok_word hI.2.1 hI.2.2.1)
  (try have ha : adv (isB (s.2 4) (s.1 6) 97 122) k9 = k7 := hI.2.2.2.1.symm.trans (adv_n c_3))
  (try have hcb := cw_b (t := s.2 4) (q := k9) x1.toNat (by omega) (fun i a => hI.2.2.2.2.1 i (by omega)))
  (try have hcm : (27 : Int) ^ x1.toNat ≤ 5559060566555523 := Int.le_trans (pow_mono' (by omega) (n := 11) (by omega)) (by decide))
  (try have hn := tok_num hI.2.1 hI.2.2.1.1 hI.2.2.1.2)
  (try have ha : adv (isB (s.2 4) (s.1 6) 48 57) k9 = k7 := hI.2.2.2.1.symm.trans (adv_n c_3))
  (try have hcv := cv_b (t := s.2 4) (q := k9) (k7 - k9).toNat (fun i a => hI.2.2.2.2.1 i (by omega)))
  (try unfold lex3)
  (try simp only [bI_0, bI_n, Classical.not_not] at *)
  (try simp (disch := omega) only [i32_id] at *)
  first | done | omega | ((repeat' (with_reducible apply And.intro)) <;> first | assumption | rfl | omega | (rw [← hI.2]; exact (adv_y isWs_T (Or.inl c_3)).symm) | (rw [← hI.2]; exact (adv_y isWs_T (Or.inr c_5)).symm) | (exact hp7) | (exact hp7.symm) | (exact (hk.2.1 c_12).symm) | (exact (hk.1 c_12).symm) | (exact hk.2.2.1.symm) | (exact hk.2.2.2.2.symm) | (exact hk.2.2.2.1.symm) | (exact he.2.1.symm) | (exact he.1.symm) | (exact he.2.2.2.symm) | (exact he.2.2.1.symm) | (exact c_8) | (exact c_10) | (intro i hi; omega) | (rw [show (k7 - k7).toNat = 0 by omega]; rfl) | (exact hI.2.1) | (exact hI.2.1.symm) | (exact hI.2.2.1) | (exact hI.2.2.1.1) | (exact hI.2.2.1.2) | (rw [hw.2.1, ha]) | (rw [hw.1]; exact hI.2.2.2.2.2.1) | (rw [hw.2.2.2]; exact hI.2.2.2.2.2.2.1) | (rw [hw.2.2.1, ha, show k7 - k9 = x1 by omega]; exact hI.2.2.2.2.2.2.2) | (rw [hn.2.1, ha]) | (rw [hn.1]; exact hI.2.2.2.2.2.1) | (rw [hn.2.2.2]; exact hI.2.2.2.2.2.2.1) | (rw [hn.2.2.1, ha]; exact hI.2.2.2.2.2.2.2) | (rw [← hI.2.2.2.1]; exact (adv_y isB_T c_3).symm) | (intro i hi; by_cases e : (i : Int) = x1; (focus (rw [e, ← hI.1.2.1]; omega)); (focus (exact hI.2.2.2.2.1 i (by omega)))) | (intro i hi; by_cases e : (i : Int) = k7 - k9; (focus (rw [e, show k9 + (k7 - k9) = k7 by omega]; omega)); (focus (exact hI.2.2.2.2.1 i (by omega)))) | (rw [cw_s _ _ hI.1.1, if_neg (by omega), ← hI.2.2.2.2.2.2.2, ← hI.1.2.1, i64_id (x := 27 * k11) (by omega) (by omega), i64_id (x := 27 * k11 + s.2 4 k7) (by omega) (by omega), i64_id (by omega) (by omega)]) | (rw [cw_s _ _ hI.1.1, if_pos (by omega)]) | (rw [show k7 + 1 - k9 = (k7 - k9) + 1 by omega, cv_s _ _ (by omega), if_neg (by omega), ← hI.2.2.2.2.2.2.2, show k9 + (k7 - k9) = k7 by omega]) | (rw [show k7 + 1 - k9 = (k7 - k9) + 1 by omega, cv_s _ _ (by omega), if_pos (by omega)]) | grind [upI])
theorem vcX3_next_40 (s : MS) (hp : 0 ≤ (s.1 7) ∧ (s.1 7) ≤ (s.1 6) ∧ (s.1 6) ≤ 800) (x1 : Int) (k7 : Int) (k8 : Int) (k9 : Int) (k10 : Int) (k11 : Int) (hI : (0 ≤ x1 ∧ k7 = k9 + x1 ∧ k7 ≤ s.1 6 ∧ 0 ≤ k9) ∧ plc (s.2 4) (s.1 6) (s.1 7) = k9 ∧ isB (s.2 4) (s.1 6) 97 122 k9 ∧ adv (isB (s.2 4) (s.1 6) 97 122) k7 = adv (isB (s.2 4) (s.1 6) 97 122) k9 ∧ (∀ i : Nat, i < x1 → 97 ≤ s.2 4 (k9 + i) ∧ s.2 4 (k9 + i) ≤ 122) ∧ k8 = 1 ∧ k10 = 0 ∧ k11 = cw (s.2 4) k9 x1.toNat) (o_1 : (0 ≤ k7 ∧ (s.1 6) ≤ 800)) (c_3 : ¬ (bI (k7 < (s.1 6) ∧ (97 : Int) ≤ (s.2 4) k7 ∧ (s.2 4) k7 ≤ (122 : Int))) = 0) (c_4 : ¬ x1 ≤ 11) (c_7 : ¬ x1 ≤ 11) : lex3 0 1 ((s.1 6 - (i32 (k7 + 1))).toNat) 0 1 ((s.1 6 - k7).toNat) := by
  (try simp only [bI_0, bI_n, Classical.not_not] at *)
  (try have hp7 : plc (s.2 4) (s.1 6) (s.1 7) = k7 := hI.2.symm.trans (adv_n (fun h => h.elim c_3 c_5)))
  (try have hk := tok_sign hp7 c_6 c_8 c_10)
  (try have he := tok_end hp7 c_6)
  (try have hw := tok_word hI.2.1 hI.2.2.1)
  (try have ha : adv (isB (s.2 4) (s.1 6) 97 122) k9 = k7 := hI.2.2.2.1.symm.trans (adv_n c_3))
  (try have hcb := cw_b (t := s.2 4) (q := k9) x1.toNat (by omega) (fun i a => hI.2.2.2.2.1 i (by omega)))
  (try have hcm : (27 : Int) ^ x1.toNat ≤ 5559060566555523 := Int.le_trans (pow_mono' (by omega) (n := 11) (by omega)) (by decide))
  (try have hn := tok_num hI.2.1 hI.2.2.1.1 hI.2.2.1.2)
  (try have ha : adv (isB (s.2 4) (s.1 6) 48 57) k9 = k7 := hI.2.2.2.1.symm.trans (adv_n c_3))
  (try have hcv := cv_b (t := s.2 4) (q := k9) (k7 - k9).toNat (fun i a => hI.2.2.2.2.1 i (by omega)))
  (try unfold lex3)
  (try simp only [bI_0, bI_n, Classical.not_not] at *)
  (try simp (disch := omega) only [i32_id] at *)
  first | done | omega | ((repeat' (with_reducible apply And.intro)) <;> first | assumption | rfl | omega | (rw [← hI.2]; exact (adv_y isWs_T (Or.inl c_3)).symm) | (rw [← hI.2]; exact (adv_y isWs_T (Or.inr c_5)).symm) | (exact hp7) | (exact hp7.symm) | (exact (hk.2.1 c_12).symm) | (exact (hk.1 c_12).symm) | (exact hk.2.2.1.symm) | (exact hk.2.2.2.2.symm) | (exact hk.2.2.2.1.symm) | (exact he.2.1.symm) | (exact he.1.symm) | (exact he.2.2.2.symm) | (exact he.2.2.1.symm) | (exact c_8) | (exact c_10) | (intro i hi; omega) | (rw [show (k7 - k7).toNat = 0 by omega]; rfl) | (exact hI.2.1) | (exact hI.2.1.symm) | (exact hI.2.2.1) | (exact hI.2.2.1.1) | (exact hI.2.2.1.2) | (rw [hw.2.1, ha]) | (rw [hw.1]; exact hI.2.2.2.2.2.1) | (rw [hw.2.2.2]; exact hI.2.2.2.2.2.2.1) | (rw [hw.2.2.1, ha, show k7 - k9 = x1 by omega]; exact hI.2.2.2.2.2.2.2) | (rw [hn.2.1, ha]) | (rw [hn.1]; exact hI.2.2.2.2.2.1) | (rw [hn.2.2.2]; exact hI.2.2.2.2.2.2.1) | (rw [hn.2.2.1, ha]; exact hI.2.2.2.2.2.2.2) | (rw [← hI.2.2.2.1]; exact (adv_y isB_T c_3).symm) | (intro i hi; by_cases e : (i : Int) = x1; (focus (rw [e, ← hI.1.2.1]; omega)); (focus (exact hI.2.2.2.2.1 i (by omega)))) | (intro i hi; by_cases e : (i : Int) = k7 - k9; (focus (rw [e, show k9 + (k7 - k9) = k7 by omega]; omega)); (focus (exact hI.2.2.2.2.1 i (by omega)))) | (rw [cw_s _ _ hI.1.1, if_neg (by omega), ← hI.2.2.2.2.2.2.2, ← hI.1.2.1, i64_id (x := 27 * k11) (by omega) (by omega), i64_id (x := 27 * k11 + s.2 4 k7) (by omega) (by omega), i64_id (by omega) (by omega)]) | (rw [cw_s _ _ hI.1.1, if_pos (by omega)]) | (rw [show k7 + 1 - k9 = (k7 - k9) + 1 by omega, cv_s _ _ (by omega), if_neg (by omega), ← hI.2.2.2.2.2.2.2, show k9 + (k7 - k9) = k7 by omega]) | (rw [show k7 + 1 - k9 = (k7 - k9) + 1 by omega, cv_s _ _ (by omega), if_pos (by omega)]) | grind [upI])
theorem vcX3_next_41 (s : MS) (hp : 0 ≤ (s.1 7) ∧ (s.1 7) ≤ (s.1 6) ∧ (s.1 6) ≤ 800) (k7 : Int) (k8 : Int) (k9 : Int) (k10 : Int) (k11 : Int) (hI : (k9 ≤ k7 ∧ k7 ≤ s.1 6 ∧ 0 ≤ k9) ∧ plc (s.2 4) (s.1 6) (s.1 7) = k9 ∧ (¬ isB (s.2 4) (s.1 6) 97 122 k9 ∧ isB (s.2 4) (s.1 6) 48 57 k9) ∧ adv (isB (s.2 4) (s.1 6) 48 57) k7 = adv (isB (s.2 4) (s.1 6) 48 57) k9 ∧ (∀ i : Nat, i < k7 - k9 → 48 ≤ s.2 4 (k9 + i) ∧ s.2 4 (k9 + i) ≤ 57) ∧ k8 = 2 ∧ k11 = 0 ∧ k10 = cv (s.2 4) k9 (k7 - k9).toNat) : (0 ≤ k7 ∧ (s.1 6) ≤ 800) := by
  (try simp only [bI_0, bI_n, Classical.not_not] at *)
  (try have hp7 : plc (s.2 4) (s.1 6) (s.1 7) = k7 := hI.2.symm.trans (adv_n (fun h => h.elim c_3 c_5)))
  (try have hk := tok_sign hp7 c_6 c_8 c_10)
  (try have he := tok_end hp7 c_6)
  (try have hw := tok_word hI.2.1 hI.2.2.1)
  (try have ha : adv (isB (s.2 4) (s.1 6) 97 122) k9 = k7 := hI.2.2.2.1.symm.trans (adv_n c_3))
  (try have hcb := cw_b (t := s.2 4) (q := k9) x1.toNat (by omega) (fun i a => hI.2.2.2.2.1 i (by omega)))
  (try have hcm : (27 : Int) ^ x1.toNat ≤ 5559060566555523 := Int.le_trans (pow_mono' (by omega) (n := 11) (by omega)) (by decide))
  (try have hn := tok_num hI.2.1 hI.2.2.1.1 hI.2.2.1.2)
  (try have ha : adv (isB (s.2 4) (s.1 6) 48 57) k9 = k7 := hI.2.2.2.1.symm.trans (adv_n c_3))
  (try have hcv := cv_b (t := s.2 4) (q := k9) (k7 - k9).toNat (fun i a => hI.2.2.2.2.1 i (by omega)))
  (try unfold lex3)
  (try simp only [bI_0, bI_n, Classical.not_not] at *)
  (try simp (disch := omega) only [i32_id] at *)
  first | done | omega | ((repeat' (with_reducible apply And.intro)) <;> first | assumption | rfl | omega | (rw [← hI.2]; exact (adv_y isWs_T (Or.inl c_3)).symm) | (rw [← hI.2]; exact (adv_y isWs_T (Or.inr c_5)).symm) | (exact hp7) | (exact hp7.symm) | (exact (hk.2.1 c_12).symm) | (exact (hk.1 c_12).symm) | (exact hk.2.2.1.symm) | (exact hk.2.2.2.2.symm) | (exact hk.2.2.2.1.symm) | (exact he.2.1.symm) | (exact he.1.symm) | (exact he.2.2.2.symm) | (exact he.2.2.1.symm) | (exact c_8) | (exact c_10) | (intro i hi; omega) | (rw [show (k7 - k7).toNat = 0 by omega]; rfl) | (exact hI.2.1) | (exact hI.2.1.symm) | (exact hI.2.2.1) | (exact hI.2.2.1.1) | (exact hI.2.2.1.2) | (rw [hw.2.1, ha]) | (rw [hw.1]; exact hI.2.2.2.2.2.1) | (rw [hw.2.2.2]; exact hI.2.2.2.2.2.2.1) | (rw [hw.2.2.1, ha, show k7 - k9 = x1 by omega]; exact hI.2.2.2.2.2.2.2) | (rw [hn.2.1, ha]) | (rw [hn.1]; exact hI.2.2.2.2.2.1) | (rw [hn.2.2.2]; exact hI.2.2.2.2.2.2.1) | (rw [hn.2.2.1, ha]; exact hI.2.2.2.2.2.2.2) | (rw [← hI.2.2.2.1]; exact (adv_y isB_T c_3).symm) | (intro i hi; by_cases e : (i : Int) = x1; (focus (rw [e, ← hI.1.2.1]; omega)); (focus (exact hI.2.2.2.2.1 i (by omega)))) | (intro i hi; by_cases e : (i : Int) = k7 - k9; (focus (rw [e, show k9 + (k7 - k9) = k7 by omega]; omega)); (focus (exact hI.2.2.2.2.1 i (by omega)))) | (rw [cw_s _ _ hI.1.1, if_neg (by omega), ← hI.2.2.2.2.2.2.2, ← hI.1.2.1, i64_id (x := 27 * k11) (by omega) (by omega), i64_id (x := 27 * k11 + s.2 4 k7) (by omega) (by omega), i64_id (by omega) (by omega)]) | (rw [cw_s _ _ hI.1.1, if_pos (by omega)]) | (rw [show k7 + 1 - k9 = (k7 - k9) + 1 by omega, cv_s _ _ (by omega), if_neg (by omega), ← hI.2.2.2.2.2.2.2, show k9 + (k7 - k9) = k7 by omega]) | (rw [show k7 + 1 - k9 = (k7 - k9) + 1 by omega, cv_s _ _ (by omega), if_pos (by omega)]) | grind [upI])
theorem vcX3_next_42 (s : MS) (hp : 0 ≤ (s.1 7) ∧ (s.1 7) ≤ (s.1 6) ∧ (s.1 6) ≤ 800) (k7 : Int) (k8 : Int) (k9 : Int) (k10 : Int) (k11 : Int) (hI : (k9 ≤ k7 ∧ k7 ≤ s.1 6 ∧ 0 ≤ k9) ∧ plc (s.2 4) (s.1 6) (s.1 7) = k9 ∧ (¬ isB (s.2 4) (s.1 6) 97 122 k9 ∧ isB (s.2 4) (s.1 6) 48 57 k9) ∧ adv (isB (s.2 4) (s.1 6) 48 57) k7 = adv (isB (s.2 4) (s.1 6) 48 57) k9 ∧ (∀ i : Nat, i < k7 - k9 → 48 ≤ s.2 4 (k9 + i) ∧ s.2 4 (k9 + i) ≤ 57) ∧ k8 = 2 ∧ k11 = 0 ∧ k10 = cv (s.2 4) k9 (k7 - k9).toNat) (o_1 : (0 ≤ k7 ∧ (s.1 6) ≤ 800)) (c_3 : (bI (k7 < (s.1 6) ∧ (48 : Int) ≤ (s.2 4) k7 ∧ (s.2 4) k7 ≤ (57 : Int))) = 0) : k7 = (enx (s.2 4) (s.1 6) (s.1 7)) := by
  (try simp only [bI_0, bI_n, Classical.not_not] at *)
  (try have hp7 : plc (s.2 4) (s.1 6) (s.1 7) = k7 := hI.2.symm.trans (adv_n (fun h => h.elim c_3 c_5)))
  (try have hk := tok_sign hp7 c_6 c_8 c_10)
  (try have he := tok_end hp7 c_6)
  (try have hw := tok_word hI.2.1 hI.2.2.1)
  (try have ha : adv (isB (s.2 4) (s.1 6) 97 122) k9 = k7 := hI.2.2.2.1.symm.trans (adv_n c_3))
  (try have hcb := cw_b (t := s.2 4) (q := k9) x1.toNat (by omega) (fun i a => hI.2.2.2.2.1 i (by omega)))
  (try have hcm : (27 : Int) ^ x1.toNat ≤ 5559060566555523 := Int.le_trans (pow_mono' (by omega) (n := 11) (by omega)) (by decide))
  (try have hn := tok_num hI.2.1 hI.2.2.1.1 hI.2.2.1.2)
  (try have ha : adv (isB (s.2 4) (s.1 6) 48 57) k9 = k7 := hI.2.2.2.1.symm.trans (adv_n c_3))
  (try have hcv := cv_b (t := s.2 4) (q := k9) (k7 - k9).toNat (fun i a => hI.2.2.2.2.1 i (by omega)))
  (try unfold lex3)
  (try simp only [bI_0, bI_n, Classical.not_not] at *)
  (try simp (disch := omega) only [i32_id] at *)
  first | done | omega | ((repeat' (with_reducible apply And.intro)) <;> first | assumption | rfl | omega | (rw [← hI.2]; exact (adv_y isWs_T (Or.inl c_3)).symm) | (rw [← hI.2]; exact (adv_y isWs_T (Or.inr c_5)).symm) | (exact hp7) | (exact hp7.symm) | (exact (hk.2.1 c_12).symm) | (exact (hk.1 c_12).symm) | (exact hk.2.2.1.symm) | (exact hk.2.2.2.2.symm) | (exact hk.2.2.2.1.symm) | (exact he.2.1.symm) | (exact he.1.symm) | (exact he.2.2.2.symm) | (exact he.2.2.1.symm) | (exact c_8) | (exact c_10) | (intro i hi; omega) | (rw [show (k7 - k7).toNat = 0 by omega]; rfl) | (exact hI.2.1) | (exact hI.2.1.symm) | (exact hI.2.2.1) | (exact hI.2.2.1.1) | (exact hI.2.2.1.2) | (rw [hw.2.1, ha]) | (rw [hw.1]; exact hI.2.2.2.2.2.1) | (rw [hw.2.2.2]; exact hI.2.2.2.2.2.2.1) | (rw [hw.2.2.1, ha, show k7 - k9 = x1 by omega]; exact hI.2.2.2.2.2.2.2) | (rw [hn.2.1, ha]) | (rw [hn.1]; exact hI.2.2.2.2.2.1) | (rw [hn.2.2.2]; exact hI.2.2.2.2.2.2.1) | (rw [hn.2.2.1, ha]; exact hI.2.2.2.2.2.2.2) | (rw [← hI.2.2.2.1]; exact (adv_y isB_T c_3).symm) | (intro i hi; by_cases e : (i : Int) = x1; (focus (rw [e, ← hI.1.2.1]; omega)); (focus (exact hI.2.2.2.2.1 i (by omega)))) | (intro i hi; by_cases e : (i : Int) = k7 - k9; (focus (rw [e, show k9 + (k7 - k9) = k7 by omega]; omega)); (focus (exact hI.2.2.2.2.1 i (by omega)))) | (rw [cw_s _ _ hI.1.1, if_neg (by omega), ← hI.2.2.2.2.2.2.2, ← hI.1.2.1, i64_id (x := 27 * k11) (by omega) (by omega), i64_id (x := 27 * k11 + s.2 4 k7) (by omega) (by omega), i64_id (by omega) (by omega)]) | (rw [cw_s _ _ hI.1.1, if_pos (by omega)]) | (rw [show k7 + 1 - k9 = (k7 - k9) + 1 by omega, cv_s _ _ (by omega), if_neg (by omega), ← hI.2.2.2.2.2.2.2, show k9 + (k7 - k9) = k7 by omega]) | (rw [show k7 + 1 - k9 = (k7 - k9) + 1 by omega, cv_s _ _ (by omega), if_pos (by omega)]) | grind [upI])
theorem vcX3_next_43 (s : MS) (hp : 0 ≤ (s.1 7) ∧ (s.1 7) ≤ (s.1 6) ∧ (s.1 6) ≤ 800) (k7 : Int) (k8 : Int) (k9 : Int) (k10 : Int) (k11 : Int) (hI : (k9 ≤ k7 ∧ k7 ≤ s.1 6 ∧ 0 ≤ k9) ∧ plc (s.2 4) (s.1 6) (s.1 7) = k9 ∧ (¬ isB (s.2 4) (s.1 6) 97 122 k9 ∧ isB (s.2 4) (s.1 6) 48 57 k9) ∧ adv (isB (s.2 4) (s.1 6) 48 57) k7 = adv (isB (s.2 4) (s.1 6) 48 57) k9 ∧ (∀ i : Nat, i < k7 - k9 → 48 ≤ s.2 4 (k9 + i) ∧ s.2 4 (k9 + i) ≤ 57) ∧ k8 = 2 ∧ k11 = 0 ∧ k10 = cv (s.2 4) k9 (k7 - k9).toNat) (o_1 : (0 ≤ k7 ∧ (s.1 6) ≤ 800)) (c_3 : (bI (k7 < (s.1 6) ∧ (48 : Int) ≤ (s.2 4) k7 ∧ (s.2 4) k7 ≤ (57 : Int))) = 0) : k8 = (knd (s.2 4) (s.1 6) (s.1 7)) := by
  (try simp only [bI_0, bI_n, Classical.not_not] at *)
  (try have hp7 : plc (s.2 4) (s.1 6) (s.1 7) = k7 := hI.2.symm.trans (adv_n (fun h => h.elim c_3 c_5)))
  (try have hk := tok_sign hp7 c_6 c_8 c_10)
  (try have he := tok_end hp7 c_6)
  (try have hw := tok_word hI.2.1 hI.2.2.1)
  (try have ha : adv (isB (s.2 4) (s.1 6) 97 122) k9 = k7 := hI.2.2.2.1.symm.trans (adv_n c_3))
  (try have hcb := cw_b (t := s.2 4) (q := k9) x1.toNat (by omega) (fun i a => hI.2.2.2.2.1 i (by omega)))
  (try have hcm : (27 : Int) ^ x1.toNat ≤ 5559060566555523 := Int.le_trans (pow_mono' (by omega) (n := 11) (by omega)) (by decide))
  (try have hn := tok_num hI.2.1 hI.2.2.1.1 hI.2.2.1.2)
  (try have ha : adv (isB (s.2 4) (s.1 6) 48 57) k9 = k7 := hI.2.2.2.1.symm.trans (adv_n c_3))
  (try have hcv := cv_b (t := s.2 4) (q := k9) (k7 - k9).toNat (fun i a => hI.2.2.2.2.1 i (by omega)))
  (try unfold lex3)
  (try simp only [bI_0, bI_n, Classical.not_not] at *)
  (try simp (disch := omega) only [i32_id] at *)
  first | done | omega | ((repeat' (with_reducible apply And.intro)) <;> first | assumption | rfl | omega | (rw [← hI.2]; exact (adv_y isWs_T (Or.inl c_3)).symm) | (rw [← hI.2]; exact (adv_y isWs_T (Or.inr c_5)).symm) | (exact hp7) | (exact hp7.symm) | (exact (hk.2.1 c_12).symm) | (exact (hk.1 c_12).symm) | (exact hk.2.2.1.symm) | (exact hk.2.2.2.2.symm) | (exact hk.2.2.2.1.symm) | (exact he.2.1.symm) | (exact he.1.symm) | (exact he.2.2.2.symm) | (exact he.2.2.1.symm) | (exact c_8) | (exact c_10) | (intro i hi; omega) | (rw [show (k7 - k7).toNat = 0 by omega]; rfl) | (exact hI.2.1) | (exact hI.2.1.symm) | (exact hI.2.2.1) | (exact hI.2.2.1.1) | (exact hI.2.2.1.2) | (rw [hw.2.1, ha]) | (rw [hw.1]; exact hI.2.2.2.2.2.1) | (rw [hw.2.2.2]; exact hI.2.2.2.2.2.2.1) | (rw [hw.2.2.1, ha, show k7 - k9 = x1 by omega]; exact hI.2.2.2.2.2.2.2) | (rw [hn.2.1, ha]) | (rw [hn.1]; exact hI.2.2.2.2.2.1) | (rw [hn.2.2.2]; exact hI.2.2.2.2.2.2.1) | (rw [hn.2.2.1, ha]; exact hI.2.2.2.2.2.2.2) | (rw [← hI.2.2.2.1]; exact (adv_y isB_T c_3).symm) | (intro i hi; by_cases e : (i : Int) = x1; (focus (rw [e, ← hI.1.2.1]; omega)); (focus (exact hI.2.2.2.2.1 i (by omega)))) | (intro i hi; by_cases e : (i : Int) = k7 - k9; (focus (rw [e, show k9 + (k7 - k9) = k7 by omega]; omega)); (focus (exact hI.2.2.2.2.1 i (by omega)))) | (rw [cw_s _ _ hI.1.1, if_neg (by omega), ← hI.2.2.2.2.2.2.2, ← hI.1.2.1, i64_id (x := 27 * k11) (by omega) (by omega), i64_id (x := 27 * k11 + s.2 4 k7) (by omega) (by omega), i64_id (by omega) (by omega)]) | (rw [cw_s _ _ hI.1.1, if_pos (by omega)]) | (rw [show k7 + 1 - k9 = (k7 - k9) + 1 by omega, cv_s _ _ (by omega), if_neg (by omega), ← hI.2.2.2.2.2.2.2, show k9 + (k7 - k9) = k7 by omega]) | (rw [show k7 + 1 - k9 = (k7 - k9) + 1 by omega, cv_s _ _ (by omega), if_pos (by omega)]) | grind [upI])
theorem vcX3_next_44 (s : MS) (hp : 0 ≤ (s.1 7) ∧ (s.1 7) ≤ (s.1 6) ∧ (s.1 6) ≤ 800) (k7 : Int) (k8 : Int) (k9 : Int) (k10 : Int) (k11 : Int) (hI : (k9 ≤ k7 ∧ k7 ≤ s.1 6 ∧ 0 ≤ k9) ∧ plc (s.2 4) (s.1 6) (s.1 7) = k9 ∧ (¬ isB (s.2 4) (s.1 6) 97 122 k9 ∧ isB (s.2 4) (s.1 6) 48 57 k9) ∧ adv (isB (s.2 4) (s.1 6) 48 57) k7 = adv (isB (s.2 4) (s.1 6) 48 57) k9 ∧ (∀ i : Nat, i < k7 - k9 → 48 ≤ s.2 4 (k9 + i) ∧ s.2 4 (k9 + i) ≤ 57) ∧ k8 = 2 ∧ k11 = 0 ∧ k10 = cv (s.2 4) k9 (k7 - k9).toNat) (o_1 : (0 ≤ k7 ∧ (s.1 6) ≤ 800)) (c_3 : (bI (k7 < (s.1 6) ∧ (48 : Int) ≤ (s.2 4) k7 ∧ (s.2 4) k7 ≤ (57 : Int))) = 0) : k9 = (plc (s.2 4) (s.1 6) (s.1 7)) := by
  (try simp only [bI_0, bI_n, Classical.not_not] at *)
  (try have hp7 : plc (s.2 4) (s.1 6) (s.1 7) = k7 := hI.2.symm.trans (adv_n (fun h => h.elim c_3 c_5)))
  (try have hk := tok_sign hp7 c_6 c_8 c_10)
  (try have he := tok_end hp7 c_6)
  (try have hw := tok_word hI.2.1 hI.2.2.1)
  (try have ha : adv (isB (s.2 4) (s.1 6) 97 122) k9 = k7 := hI.2.2.2.1.symm.trans (adv_n c_3))
  (try have hcb := cw_b (t := s.2 4) (q := k9) x1.toNat (by omega) (fun i a => hI.2.2.2.2.1 i (by omega)))
  (try have hcm : (27 : Int) ^ x1.toNat ≤ 5559060566555523 := Int.le_trans (pow_mono' (by omega) (n := 11) (by omega)) (by decide))
  (try have hn := tok_num hI.2.1 hI.2.2.1.1 hI.2.2.1.2)
  (try have ha : adv (isB (s.2 4) (s.1 6) 48 57) k9 = k7 := hI.2.2.2.1.symm.trans (adv_n c_3))
  (try have hcv := cv_b (t := s.2 4) (q := k9) (k7 - k9).toNat (fun i a => hI.2.2.2.2.1 i (by omega)))
  (try unfold lex3)
  (try simp only [bI_0, bI_n, Classical.not_not] at *)
  (try simp (disch := omega) only [i32_id] at *)
  first | done | omega | ((repeat' (with_reducible apply And.intro)) <;> first | assumption | rfl | omega | (rw [← hI.2]; exact (adv_y isWs_T (Or.inl c_3)).symm) | (rw [← hI.2]; exact (adv_y isWs_T (Or.inr c_5)).symm) | (exact hp7) | (exact hp7.symm) | (exact (hk.2.1 c_12).symm) | (exact (hk.1 c_12).symm) | (exact hk.2.2.1.symm) | (exact hk.2.2.2.2.symm) | (exact hk.2.2.2.1.symm) | (exact he.2.1.symm) | (exact he.1.symm) | (exact he.2.2.2.symm) | (exact he.2.2.1.symm) | (exact c_8) | (exact c_10) | (intro i hi; omega) | (rw [show (k7 - k7).toNat = 0 by omega]; rfl) | (exact hI.2.1) | (exact hI.2.1.symm) | (exact hI.2.2.1) | (exact hI.2.2.1.1) | (exact hI.2.2.1.2) | (rw [hw.2.1, ha]) | (rw [hw.1]; exact hI.2.2.2.2.2.1) | (rw [hw.2.2.2]; exact hI.2.2.2.2.2.2.1) | (rw [hw.2.2.1, ha, show k7 - k9 = x1 by omega]; exact hI.2.2.2.2.2.2.2) | (rw [hn.2.1, ha]) | (rw [hn.1]; exact hI.2.2.2.2.2.1) | (rw [hn.2.2.2]; exact hI.2.2.2.2.2.2.1) | (rw [hn.2.2.1, ha]; exact hI.2.2.2.2.2.2.2) | (rw [← hI.2.2.2.1]; exact (adv_y isB_T c_3).symm) | (intro i hi; by_cases e : (i : Int) = x1; (focus (rw [e, ← hI.1.2.1]; omega)); (focus (exact hI.2.2.2.2.1 i (by omega)))) | (intro i hi; by_cases e : (i : Int) = k7 - k9; (focus (rw [e, show k9 + (k7 - k9) = k7 by omega]; omega)); (focus (exact hI.2.2.2.2.1 i (by omega)))) | (rw [cw_s _ _ hI.1.1, if_neg (by omega), ← hI.2.2.2.2.2.2.2, ← hI.1.2.1, i64_id (x := 27 * k11) (by omega) (by omega), i64_id (x := 27 * k11 + s.2 4 k7) (by omega) (by omega), i64_id (by omega) (by omega)]) | (rw [cw_s _ _ hI.1.1, if_pos (by omega)]) | (rw [show k7 + 1 - k9 = (k7 - k9) + 1 by omega, cv_s _ _ (by omega), if_neg (by omega), ← hI.2.2.2.2.2.2.2, show k9 + (k7 - k9) = k7 by omega]) | (rw [show k7 + 1 - k9 = (k7 - k9) + 1 by omega, cv_s _ _ (by omega), if_pos (by omega)]) | grind [upI])
theorem vcX3_next_45 (s : MS) (hp : 0 ≤ (s.1 7) ∧ (s.1 7) ≤ (s.1 6) ∧ (s.1 6) ≤ 800) (k7 : Int) (k8 : Int) (k9 : Int) (k10 : Int) (k11 : Int) (hI : (k9 ≤ k7 ∧ k7 ≤ s.1 6 ∧ 0 ≤ k9) ∧ plc (s.2 4) (s.1 6) (s.1 7) = k9 ∧ (¬ isB (s.2 4) (s.1 6) 97 122 k9 ∧ isB (s.2 4) (s.1 6) 48 57 k9) ∧ adv (isB (s.2 4) (s.1 6) 48 57) k7 = adv (isB (s.2 4) (s.1 6) 48 57) k9 ∧ (∀ i : Nat, i < k7 - k9 → 48 ≤ s.2 4 (k9 + i) ∧ s.2 4 (k9 + i) ≤ 57) ∧ k8 = 2 ∧ k11 = 0 ∧ k10 = cv (s.2 4) k9 (k7 - k9).toNat) (o_1 : (0 ≤ k7 ∧ (s.1 6) ≤ 800)) (c_3 : (bI (k7 < (s.1 6) ∧ (48 : Int) ≤ (s.2 4) k7 ∧ (s.2 4) k7 ≤ (57 : Int))) = 0) : k10 = (vlu (s.2 4) (s.1 6) (s.1 7)) := by
  (try simp only [bI_0, bI_n, Classical.not_not] at *)
  (try have hp7 : plc (s.2 4) (s.1 6) (s.1 7) = k7 := hI.2.symm.trans (adv_n (fun h => h.elim c_3 c_5)))
  (try have hk := tok_sign hp7 c_6 c_8 c_10)
  (try have he := tok_end hp7 c_6)
  (try have hw := tok_word hI.2.1 hI.2.2.1)
  (try have ha : adv (isB (s.2 4) (s.1 6) 97 122) k9 = k7 := hI.2.2.2.1.symm.trans (adv_n c_3))
  (try have hcb := cw_b (t := s.2 4) (q := k9) x1.toNat (by omega) (fun i a => hI.2.2.2.2.1 i (by omega)))
  (try have hcm : (27 : Int) ^ x1.toNat ≤ 5559060566555523 := Int.le_trans (pow_mono' (by omega) (n := 11) (by omega)) (by decide))
  (try have hn := tok_num hI.2.1 hI.2.2.1.1 hI.2.2.1.2)
  (try have ha : adv (isB (s.2 4) (s.1 6) 48 57) k9 = k7 := hI.2.2.2.1.symm.trans (adv_n c_3))
  (try have hcv := cv_b (t := s.2 4) (q := k9) (k7 - k9).toNat (fun i a => hI.2.2.2.2.1 i (by omega)))
  (try unfold lex3)
  (try simp only [bI_0, bI_n, Classical.not_not] at *)
  (try simp (disch := omega) only [i32_id] at *)
  first | done | omega | ((repeat' (with_reducible apply And.intro)) <;> first | assumption | rfl | omega | (rw [← hI.2]; exact (adv_y isWs_T (Or.inl c_3)).symm) | (rw [← hI.2]; exact (adv_y isWs_T (Or.inr c_5)).symm) | (exact hp7) | (exact hp7.symm) | (exact (hk.2.1 c_12).symm) | (exact (hk.1 c_12).symm) | (exact hk.2.2.1.symm) | (exact hk.2.2.2.2.symm) | (exact hk.2.2.2.1.symm) | (exact he.2.1.symm) | (exact he.1.symm) | (exact he.2.2.2.symm) | (exact he.2.2.1.symm) | (exact c_8) | (exact c_10) | (intro i hi; omega) | (rw [show (k7 - k7).toNat = 0 by omega]; rfl) | (exact hI.2.1) | (exact hI.2.1.symm) | (exact hI.2.2.1) | (exact hI.2.2.1.1) | (exact hI.2.2.1.2) | (rw [hw.2.1, ha]) | (rw [hw.1]; exact hI.2.2.2.2.2.1) | (rw [hw.2.2.2]; exact hI.2.2.2.2.2.2.1) | (rw [hw.2.2.1, ha, show k7 - k9 = x1 by omega]; exact hI.2.2.2.2.2.2.2) | (rw [hn.2.1, ha]) | (rw [hn.1]; exact hI.2.2.2.2.2.1) | (rw [hn.2.2.2]; exact hI.2.2.2.2.2.2.1) | (rw [hn.2.2.1, ha]; exact hI.2.2.2.2.2.2.2) | (rw [← hI.2.2.2.1]; exact (adv_y isB_T c_3).symm) | (intro i hi; by_cases e : (i : Int) = x1; (focus (rw [e, ← hI.1.2.1]; omega)); (focus (exact hI.2.2.2.2.1 i (by omega)))) | (intro i hi; by_cases e : (i : Int) = k7 - k9; (focus (rw [e, show k9 + (k7 - k9) = k7 by omega]; omega)); (focus (exact hI.2.2.2.2.1 i (by omega)))) | (rw [cw_s _ _ hI.1.1, if_neg (by omega), ← hI.2.2.2.2.2.2.2, ← hI.1.2.1, i64_id (x := 27 * k11) (by omega) (by omega), i64_id (x := 27 * k11 + s.2 4 k7) (by omega) (by omega), i64_id (by omega) (by omega)]) | (rw [cw_s _ _ hI.1.1, if_pos (by omega)]) | (rw [show k7 + 1 - k9 = (k7 - k9) + 1 by omega, cv_s _ _ (by omega), if_neg (by omega), ← hI.2.2.2.2.2.2.2, show k9 + (k7 - k9) = k7 by omega]) | (rw [show k7 + 1 - k9 = (k7 - k9) + 1 by omega, cv_s _ _ (by omega), if_pos (by omega)]) | grind [upI])
theorem vcX3_next_46 (s : MS) (hp : 0 ≤ (s.1 7) ∧ (s.1 7) ≤ (s.1 6) ∧ (s.1 6) ≤ 800) (k7 : Int) (k8 : Int) (k9 : Int) (k10 : Int) (k11 : Int) (hI : (k9 ≤ k7 ∧ k7 ≤ s.1 6 ∧ 0 ≤ k9) ∧ plc (s.2 4) (s.1 6) (s.1 7) = k9 ∧ (¬ isB (s.2 4) (s.1 6) 97 122 k9 ∧ isB (s.2 4) (s.1 6) 48 57 k9) ∧ adv (isB (s.2 4) (s.1 6) 48 57) k7 = adv (isB (s.2 4) (s.1 6) 48 57) k9 ∧ (∀ i : Nat, i < k7 - k9 → 48 ≤ s.2 4 (k9 + i) ∧ s.2 4 (k9 + i) ≤ 57) ∧ k8 = 2 ∧ k11 = 0 ∧ k10 = cv (s.2 4) k9 (k7 - k9).toNat) (o_1 : (0 ≤ k7 ∧ (s.1 6) ≤ 800)) (c_3 : (bI (k7 < (s.1 6) ∧ (48 : Int) ≤ (s.2 4) k7 ∧ (s.2 4) k7 ≤ (57 : Int))) = 0) : k11 = (wrd (s.2 4) (s.1 6) (s.1 7)) := by
  (try simp only [bI_0, bI_n, Classical.not_not] at *)
  (try have hp7 : plc (s.2 4) (s.1 6) (s.1 7) = k7 := hI.2.symm.trans (adv_n (fun h => h.elim c_3 c_5)))
  (try have hk := tok_sign hp7 c_6 c_8 c_10)
  (try have he := tok_end hp7 c_6)
  (try have hw := tok_word hI.2.1 hI.2.2.1)
  (try have ha : adv (isB (s.2 4) (s.1 6) 97 122) k9 = k7 := hI.2.2.2.1.symm.trans (adv_n c_3))
  (try have hcb := cw_b (t := s.2 4) (q := k9) x1.toNat (by omega) (fun i a => hI.2.2.2.2.1 i (by omega)))
  (try have hcm : (27 : Int) ^ x1.toNat ≤ 5559060566555523 := Int.le_trans (pow_mono' (by omega) (n := 11) (by omega)) (by decide))
  (try have hn := tok_num hI.2.1 hI.2.2.1.1 hI.2.2.1.2)
  (try have ha : adv (isB (s.2 4) (s.1 6) 48 57) k9 = k7 := hI.2.2.2.1.symm.trans (adv_n c_3))
  (try have hcv := cv_b (t := s.2 4) (q := k9) (k7 - k9).toNat (fun i a => hI.2.2.2.2.1 i (by omega)))
  (try unfold lex3)
  (try simp only [bI_0, bI_n, Classical.not_not] at *)
  (try simp (disch := omega) only [i32_id] at *)
  first | done | omega | ((repeat' (with_reducible apply And.intro)) <;> first | assumption | rfl | omega | (rw [← hI.2]; exact (adv_y isWs_T (Or.inl c_3)).symm) | (rw [← hI.2]; exact (adv_y isWs_T (Or.inr c_5)).symm) | (exact hp7) | (exact hp7.symm) | (exact (hk.2.1 c_12).symm) | (exact (hk.1 c_12).symm) | (exact hk.2.2.1.symm) | (exact hk.2.2.2.2.symm) | (exact hk.2.2.2.1.symm) | (exact he.2.1.symm) | (exact he.1.symm) | (exact he.2.2.2.symm) | (exact he.2.2.1.symm) | (exact c_8) | (exact c_10) | (intro i hi; omega) | (rw [show (k7 - k7).toNat = 0 by omega]; rfl) | (exact hI.2.1) | (exact hI.2.1.symm) | (exact hI.2.2.1) | (exact hI.2.2.1.1) | (exact hI.2.2.1.2) | (rw [hw.2.1, ha]) | (rw [hw.1]; exact hI.2.2.2.2.2.1) | (rw [hw.2.2.2]; exact hI.2.2.2.2.2.2.1) | (rw [hw.2.2.1, ha, show k7 - k9 = x1 by omega]; exact hI.2.2.2.2.2.2.2) | (rw [hn.2.1, ha]) | (rw [hn.1]; exact hI.2.2.2.2.2.1) | (rw [hn.2.2.2]; exact hI.2.2.2.2.2.2.1) | (rw [hn.2.2.1, ha]; exact hI.2.2.2.2.2.2.2) | (rw [← hI.2.2.2.1]; exact (adv_y isB_T c_3).symm) | (intro i hi; by_cases e : (i : Int) = x1; (focus (rw [e, ← hI.1.2.1]; omega)); (focus (exact hI.2.2.2.2.1 i (by omega)))) | (intro i hi; by_cases e : (i : Int) = k7 - k9; (focus (rw [e, show k9 + (k7 - k9) = k7 by omega]; omega)); (focus (exact hI.2.2.2.2.1 i (by omega)))) | (rw [cw_s _ _ hI.1.1, if_neg (by omega), ← hI.2.2.2.2.2.2.2, ← hI.1.2.1, i64_id (x := 27 * k11) (by omega) (by omega), i64_id (x := 27 * k11 + s.2 4 k7) (by omega) (by omega), i64_id (by omega) (by omega)]) | (rw [cw_s _ _ hI.1.1, if_pos (by omega)]) | (rw [show k7 + 1 - k9 = (k7 - k9) + 1 by omega, cv_s _ _ (by omega), if_neg (by omega), ← hI.2.2.2.2.2.2.2, show k9 + (k7 - k9) = k7 by omega]) | (rw [show k7 + 1 - k9 = (k7 - k9) + 1 by omega, cv_s _ _ (by omega), if_pos (by omega)]) | grind [upI])
theorem vcX3_next_47 (s : MS) (hp : 0 ≤ (s.1 7) ∧ (s.1 7) ≤ (s.1 6) ∧ (s.1 6) ≤ 800) (k7 : Int) (k8 : Int) (k9 : Int) (k10 : Int) (k11 : Int) (hI : (k9 ≤ k7 ∧ k7 ≤ s.1 6 ∧ 0 ≤ k9) ∧ plc (s.2 4) (s.1 6) (s.1 7) = k9 ∧ (¬ isB (s.2 4) (s.1 6) 97 122 k9 ∧ isB (s.2 4) (s.1 6) 48 57 k9) ∧ adv (isB (s.2 4) (s.1 6) 48 57) k7 = adv (isB (s.2 4) (s.1 6) 48 57) k9 ∧ (∀ i : Nat, i < k7 - k9 → 48 ≤ s.2 4 (k9 + i) ∧ s.2 4 (k9 + i) ≤ 57) ∧ k8 = 2 ∧ k11 = 0 ∧ k10 = cv (s.2 4) k9 (k7 - k9).toNat) (o_1 : (0 ≤ k7 ∧ (s.1 6) ≤ 800)) (c_3 : ¬ (bI (k7 < (s.1 6) ∧ (48 : Int) ≤ (s.2 4) k7 ∧ (s.2 4) k7 ≤ (57 : Int))) = 0) (c_4 : k10 ≤ 100000) : (0 ≤ k7 ∧ k7 < 800) := by
  (try simp only [bI_0, bI_n, Classical.not_not] at *)
  (try have hp7 : plc (s.2 4) (s.1 6) (s.1 7) = k7 := hI.2.symm.trans (adv_n (fun h => h.elim c_3 c_5)))
  (try have hk := tok_sign hp7 c_6 c_8 c_10)
  (try have he := tok_end hp7 c_6)
  (try have hw := tok_word hI.2.1 hI.2.2.1)
  (try have ha : adv (isB (s.2 4) (s.1 6) 97 122) k9 = k7 := hI.2.2.2.1.symm.trans (adv_n c_3))
  (try have hcb := cw_b (t := s.2 4) (q := k9) x1.toNat (by omega) (fun i a => hI.2.2.2.2.1 i (by omega)))
  (try have hcm : (27 : Int) ^ x1.toNat ≤ 5559060566555523 := Int.le_trans (pow_mono' (by omega) (n := 11) (by omega)) (by decide))
  (try have hn := tok_num hI.2.1 hI.2.2.1.1 hI.2.2.1.2)
  (try have ha : adv (isB (s.2 4) (s.1 6) 48 57) k9 = k7 := hI.2.2.2.1.symm.trans (adv_n c_3))
  (try have hcv := cv_b (t := s.2 4) (q := k9) (k7 - k9).toNat (fun i a => hI.2.2.2.2.1 i (by omega)))
  (try unfold lex3)
  (try simp only [bI_0, bI_n, Classical.not_not] at *)
  (try simp (disch := omega) only [i32_id] at *)
  first | done | omega | ((repeat' (with_reducible apply And.intro)) <;> first | assumption | rfl | omega | (rw [← hI.2]; exact (adv_y isWs_T (Or.inl c_3)).symm) | (rw [← hI.2]; exact (adv_y isWs_T (Or.inr c_5)).symm) | (exact hp7) | (exact hp7.symm) | (exact (hk.2.1 c_12).symm) | (exact (hk.1 c_12).symm) | (exact hk.2.2.1.symm) | (exact hk.2.2.2.2.symm) | (exact hk.2.2.2.1.symm) | (exact he.2.1.symm) | (exact he.1.symm) | (exact he.2.2.2.symm) | (exact he.2.2.1.symm) | (exact c_8) | (exact c_10) | (intro i hi; omega) | (rw [show (k7 - k7).toNat = 0 by omega]; rfl) | (exact hI.2.1) | (exact hI.2.1.symm) | (exact hI.2.2.1) | (exact hI.2.2.1.1) | (exact hI.2.2.1.2) | (rw [hw.2.1, ha]) | (rw [hw.1]; exact hI.2.2.2.2.2.1) | (rw [hw.2.2.2]; exact hI.2.2.2.2.2.2.1) | (rw [hw.2.2.1, ha, show k7 - k9 = x1 by omega]; exact hI.2.2.2.2.2.2.2) | (rw [hn.2.1, ha]) | (rw [hn.1]; exact hI.2.2.2.2.2.1) | (rw [hn.2.2.2]; exact hI.2.2.2.2.2.2.1) | (rw [hn.2.2.1, ha]; exact hI.2.2.2.2.2.2.2) | (rw [← hI.2.2.2.1]; exact (adv_y isB_T c_3).symm) | (intro i hi; by_cases e : (i : Int) = x1; (focus (rw [e, ← hI.1.2.1]; omega)); (focus (exact hI.2.2.2.2.1 i (by omega)))) | (intro i hi; by_cases e : (i : Int) = k7 - k9; (focus (rw [e, show k9 + (k7 - k9) = k7 by omega]; omega)); (focus (exact hI.2.2.2.2.1 i (by omega)))) | (rw [cw_s _ _ hI.1.1, if_neg (by omega), ← hI.2.2.2.2.2.2.2, ← hI.1.2.1, i64_id (x := 27 * k11) (by omega) (by omega), i64_id (x := 27 * k11 + s.2 4 k7) (by omega) (by omega), i64_id (by omega) (by omega)]) | (rw [cw_s _ _ hI.1.1, if_pos (by omega)]) | (rw [show k7 + 1 - k9 = (k7 - k9) + 1 by omega, cv_s _ _ (by omega), if_neg (by omega), ← hI.2.2.2.2.2.2.2, show k9 + (k7 - k9) = k7 by omega]) | (rw [show k7 + 1 - k9 = (k7 - k9) + 1 by omega, cv_s _ _ (by omega), if_pos (by omega)]) | grind [upI])
theorem vcX3_next_48 (s : MS) (hp : 0 ≤ (s.1 7) ∧ (s.1 7) ≤ (s.1 6) ∧ (s.1 6) ≤ 800) (k7 : Int) (k8 : Int) (k9 : Int) (k10 : Int) (k11 : Int) (hI : (k9 ≤ k7 ∧ k7 ≤ s.1 6 ∧ 0 ≤ k9) ∧ plc (s.2 4) (s.1 6) (s.1 7) = k9 ∧ (¬ isB (s.2 4) (s.1 6) 97 122 k9 ∧ isB (s.2 4) (s.1 6) 48 57 k9) ∧ adv (isB (s.2 4) (s.1 6) 48 57) k7 = adv (isB (s.2 4) (s.1 6) 48 57) k9 ∧ (∀ i : Nat, i < k7 - k9 → 48 ≤ s.2 4 (k9 + i) ∧ s.2 4 (k9 + i) ≤ 57) ∧ k8 = 2 ∧ k11 = 0 ∧ k10 = cv (s.2 4) k9 (k7 - k9).toNat) (o_1 : (0 ≤ k7 ∧ (s.1 6) ≤ 800)) (c_3 : ¬ (bI (k7 < (s.1 6) ∧ (48 : Int) ≤ (s.2 4) k7 ∧ (s.2 4) k7 ≤ (57 : Int))) = 0) (c_4 : k10 ≤ 100000) (o_5 : (0 ≤ k7 ∧ k7 < 800)) : (k9 ≤ (i32 (k7 + 1)) ∧ (i32 (k7 + 1)) ≤ s.1 6 ∧ 0 ≤ k9) ∧ plc (s.2 4) (s.1 6) (s.1 7) = k9 ∧ (¬ isB (s.2 4) (s.1 6) 97 122 k9 ∧ isB (s.2 4) (s.1 6) 48 57 k9) ∧ adv (isB (s.2 4) (s.1 6) 48 57) (i32 (k7 + 1)) = adv (isB (s.2 4) (s.1 6) 48 57) k9 ∧ (∀ i : Nat, i < (i32 (k7 + 1)) - k9 → 48 ≤ s.2 4 (k9 + i) ∧ s.2 4 (k9 + i) ≤ 57) ∧ k8 = 2 ∧ k11 = 0 ∧ (i32 ((i32 ((i32 (10 * k10)) + (s.2 4 k7))) - 48)) = cv (s.2 4) k9 ((i32 (k7 + 1)) - k9).toNat := by
  (try simp only [bI_0, bI_n, Classical.not_not] at *)
  (try have hp7 : plc (s.2 4) (s.1 6) (s.1 7) = k7 := hI.2.symm.trans (adv_n (fun h => h.elim c_3 c_5)))
  (try have hk := tok_sign hp7 c_6 c_8 c_10)
  (try have he := tok_end hp7 c_6)
  (try have hw := tok_word hI.2.1 hI.2.2.1)
  (try have ha : adv (isB (s.2 4) (s.1 6) 97 122) k9 = k7 := hI.2.2.2.1.symm.trans (adv_n c_3))
  (try have hcb := cw_b (t := s.2 4) (q := k9) x1.toNat (by omega) (fun i a => hI.2.2.2.2.1 i (by omega)))
  (try have hcm : (27 : Int) ^ x1.toNat ≤ 5559060566555523 := Int.le_trans (pow_mono' (by omega) (n := 11) (by omega)) (by decide))
  (try have hn := tok_num hI.2.1 hI.2.2.1.1 hI.2.2.1.2)
  (try have ha : adv (isB (s.2 4) (s.1 6) 48 57) k9 = k7 := hI.2.2.2.1.symm.trans (adv_n c_3))
  (try have hcv := cv_b (t := s.2 4) (q := k9) (k7 - k9).toNat (fun i a => hI.2.2.2.2.1 i (by omega)))
  (try unfold lex3)
  (try simp only [bI_0, bI_n, Classical.not_not] at *)
  (try simp (disch := omega) only [i32_id] at *)
  first | done | omega | ((repeat' (with_reducible apply And.intro)) <;> first | assumption | rfl | omega | (rw [← hI.2]; exact (adv_y isWs_T (Or.inl c_3)).symm) | (rw [← hI.2]; exact (adv_y isWs_T (Or.inr c_5)).symm) | (exact hp7) | (exact hp7.symm) | (exact (hk.2.1 c_12).symm) | (exact (hk.1 c_12).symm) | (exact hk.2.2.1.symm) | (exact hk.2.2.2.2.symm) | (exact hk.2.2.2.1.symm) | (exact he.2.1.symm) | (exact he.1.symm) | (exact he.2.2.2.symm) | (exact he.2.2.1.symm) | (exact c_8) | (exact c_10) | (intro i hi; omega) | (rw [show (k7 - k7).toNat = 0 by omega]; rfl) | (exact hI.2.1) | (exact hI.2.1.symm) | (exact hI.2.2.1) | (exact hI.2.2.1.1) | (exact hI.2.2.1.2) | (rw [hw.2.1, ha]) | (rw [hw.1]; exact hI.2.2.2.2.2.1) | (rw [hw.2.2.2]; exact hI.2.2.2.2.2.2.1) | (rw [hw.2.2.1, ha, show k7 - k9 = x1 by omega]; exact hI.2.2.2.2.2.2.2) | (rw [hn.2.1, ha]) | (rw [hn.1]; exact hI.2.2.2.2.2.1) | (rw [hn.2.2.2]; exact hI.2.2.2.2.2.2.1) | (rw [hn.2.2.1, ha]; exact hI.2.2.2.2.2.2.2) | (rw [← hI.2.2.2.1]; exact (adv_y isB_T c_3).symm) | (intro i hi; by_cases e : (i : Int) = x1; (focus (rw [e, ← hI.1.2.1]; omega)); (focus (exact hI.2.2.2.2.1 i (by omega)))) | (intro i hi; by_cases e : (i : Int) = k7 - k9; (focus (rw [e, show k9 + (k7 - k9) = k7 by omega]; omega)); (focus (exact hI.2.2.2.2.1 i (by omega)))) | (rw [cw_s _ _ hI.1.1, if_neg (by omega), ← hI.2.2.2.2.2.2.2, ← hI.1.2.1, i64_id (x := 27 * k11) (by omega) (by omega), i64_id (x := 27 * k11 + s.2 4 k7) (by omega) (by omega), i64_id (by omega) (by omega)]) | (rw [cw_s _ _ hI.1.1, if_pos (by omega)]) | (rw [show k7 + 1 - k9 = (k7 - k9) + 1 by omega, cv_s _ _ (by omega), if_neg (by omega), ← hI.2.2.2.2.2.2.2, show k9 + (k7 - k9) = k7 by omega]) | (rw [show k7 + 1 - k9 = (k7 - k9) + 1 by omega, cv_s _ _ (by omega), if_pos (by omega)]) | grind [upI])
theorem vcX3_next_49 (s : MS) (hp : 0 ≤ (s.1 7) ∧ (s.1 7) ≤ (s.1 6) ∧ (s.1 6) ≤ 800) (k7 : Int) (k8 : Int) (k9 : Int) (k10 : Int) (k11 : Int) (hI : (k9 ≤ k7 ∧ k7 ≤ s.1 6 ∧ 0 ≤ k9) ∧ plc (s.2 4) (s.1 6) (s.1 7) = k9 ∧ (¬ isB (s.2 4) (s.1 6) 97 122 k9 ∧ isB (s.2 4) (s.1 6) 48 57 k9) ∧ adv (isB (s.2 4) (s.1 6) 48 57) k7 = adv (isB (s.2 4) (s.1 6) 48 57) k9 ∧ (∀ i : Nat, i < k7 - k9 → 48 ≤ s.2 4 (k9 + i) ∧ s.2 4 (k9 + i) ≤ 57) ∧ k8 = 2 ∧ k11 = 0 ∧ k10 = cv (s.2 4) k9 (k7 - k9).toNat) (o_1 : (0 ≤ k7 ∧ (s.1 6) ≤ 800)) (c_3 : ¬ (bI (k7 < (s.1 6) ∧ (48 : Int) ≤ (s.2 4) k7 ∧ (s.2 4) k7 ≤ (57 : Int))) = 0) (c_4 : k10 ≤ 100000) (o_5 : (0 ≤ k7 ∧ k7 < 800)) : lex3 0 1 ((s.1 6 - (i32 (k7 + 1))).toNat) 0 1 ((s.1 6 - k7).toNat) := by
  (try simp only [bI_0, bI_n, Classical.not_not] at *)
  (try have hp7 : plc (s.2 4) (s.1 6) (s.1 7) = k7 := hI.2.symm.trans (adv_n (fun h => h.elim c_3 c_5)))
  (try have hk := tok_sign hp7 c_6 c_8 c_10)
  (try have he := tok_end hp7 c_6)
  (try have hw := tok_word hI.2.1 hI.2.2.1)
  (try have ha : adv (isB (s.2 4) (s.1 6) 97 122) k9 = k7 := hI.2.2.2.1.symm.trans (adv_n c_3))
  (try have hcb := cw_b (t := s.2 4) (q := k9) x1.toNat (by omega) (fun i a => hI.2.2.2.2.1 i (by omega)))
  (try have hcm : (27 : Int) ^ x1.toNat ≤ 5559060566555523 := Int.le_trans (pow_mono' (by omega) (n := 11) (by omega)) (by decide))
  (try have hn := tok_num hI.2.1 hI.2.2.1.1 hI.2.2.1.2)
  (try have ha : adv (isB (s.2 4) (s.1 6) 48 57) k9 = k7 := hI.2.2.2.1.symm.trans (adv_n c_3))
  (try have hcv := cv_b (t := s.2 4) (q := k9) (k7 - k9).toNat (fun i a => hI.2.2.2.2.1 i (by omega)))
  (try unfold lex3)
  (try simp only [bI_0, bI_n, Classical.not_not] at *)
  (try simp (disch := omega) only [i32_id] at *)
  first | done | omega | ((repeat' (with_reducible apply And.intro)) <;> first | assumption | rfl | omega | (rw [← hI.2]; exact (adv_y isWs_T (Or.inl c_3)).symm) | (rw [← hI.2]; exact (adv_y isWs_T (Or.inr c_5)).symm) | (exact hp7) | (exact hp7.symm) | (exact (hk.2.1 c_12).symm) | (exact (hk.1 c_12).symm) | (exact hk.2.2.1.symm) | (exact hk.2.2.2.2.symm) | (exact hk.2.2.2.1.symm) | (exact he.2.1.symm) | (exact he.1.symm) | (exact he.2.2.2.symm) | (exact he.2.2.1.symm) | (exact c_8) | (exact c_10) | (intro i hi; omega) | (rw [show (k7 - k7).toNat = 0 by omega]; rfl) | (exact hI.2.1) | (exact hI.2.1.symm) | (exact hI.2.2.1) | (exact hI.2.2.1.1) | (exact hI.2.2.1.2) | (rw [hw.2.1, ha]) | (rw [hw.1]; exact hI.2.2.2.2.2.1) | (rw [hw.2.2.2]; exact hI.2.2.2.2.2.2.1) | (rw [hw.2.2.1, ha, show k7 - k9 = x1 by omega]; exact hI.2.2.2.2.2.2.2) | (rw [hn.2.1, ha]) | (rw [hn.1]; exact hI.2.2.2.2.2.1) | (rw [hn.2.2.2]; exact hI.2.2.2.2.2.2.1) | (rw [hn.2.2.1, ha]; exact hI.2.2.2.2.2.2.2) | (rw [← hI.2.2.2.1]; exact (adv_y isB_T c_3).symm) | (intro i hi; by_cases e : (i : Int) = x1; (focus (rw [e, ← hI.1.2.1]; omega)); (focus (exact hI.2.2.2.2.1 i (by omega)))) | (intro i hi; by_cases e : (i : Int) = k7 - k9; (focus (rw [e, show k9 + (k7 - k9) = k7 by omega]; omega)); (focus (exact hI.2.2.2.2.1 i (by omega)))) | (rw [cw_s _ _ hI.1.1, if_neg (by omega), ← hI.2.2.2.2.2.2.2, ← hI.1.2.1, i64_id (x := 27 * k11) (by omega) (by omega), i64_id (x := 27 * k11 + s.2 4 k7) (by omega) (by omega), i64_id (by omega) (by omega)]) | (rw [cw_s _ _ hI.1.1, if_pos (by omega)]) | (rw [show k7 + 1 - k9 = (k7 - k9) + 1 by omega, cv_s _ _ (by omega), if_neg (by omega), ← hI.2.2.2.2.2.2.2, show k9 + (k7 - k9) = k7 by omega]) | (rw [show k7 + 1 - k9 = (k7 - k9) + 1 by omega, cv_s _ _ (by omega), if_pos (by omega)]) | grind [upI])
theorem vcX3_next_50 (s : MS) (hp : 0 ≤ (s.1 7) ∧ (s.1 7) ≤ (s.1 6) ∧ (s.1 6) ≤ 800) (k7 : Int) (k8 : Int) (k9 : Int) (k10 : Int) (k11 : Int) (hI : (k9 ≤ k7 ∧ k7 ≤ s.1 6 ∧ 0 ≤ k9) ∧ plc (s.2 4) (s.1 6) (s.1 7) = k9 ∧ (¬ isB (s.2 4) (s.1 6) 97 122 k9 ∧ isB (s.2 4) (s.1 6) 48 57 k9) ∧ adv (isB (s.2 4) (s.1 6) 48 57) k7 = adv (isB (s.2 4) (s.1 6) 48 57) k9 ∧ (∀ i : Nat, i < k7 - k9 → 48 ≤ s.2 4 (k9 + i) ∧ s.2 4 (k9 + i) ≤ 57) ∧ k8 = 2 ∧ k11 = 0 ∧ k10 = cv (s.2 4) k9 (k7 - k9).toNat) (o_1 : (0 ≤ k7 ∧ (s.1 6) ≤ 800)) (c_3 : ¬ (bI (k7 < (s.1 6) ∧ (48 : Int) ≤ (s.2 4) k7 ∧ (s.2 4) k7 ≤ (57 : Int))) = 0) (c_4 : ¬ k10 ≤ 100000) : (k9 ≤ (i32 (k7 + 1)) ∧ (i32 (k7 + 1)) ≤ s.1 6 ∧ 0 ≤ k9) ∧ plc (s.2 4) (s.1 6) (s.1 7) = k9 ∧ (¬ isB (s.2 4) (s.1 6) 97 122 k9 ∧ isB (s.2 4) (s.1 6) 48 57 k9) ∧ adv (isB (s.2 4) (s.1 6) 48 57) (i32 (k7 + 1)) = adv (isB (s.2 4) (s.1 6) 48 57) k9 ∧ (∀ i : Nat, i < (i32 (k7 + 1)) - k9 → 48 ≤ s.2 4 (k9 + i) ∧ s.2 4 (k9 + i) ≤ 57) ∧ k8 = 2 ∧ k11 = 0 ∧ (1000000 : Int) = cv (s.2 4) k9 ((i32 (k7 + 1)) - k9).toNat := by
  (try simp only [bI_0, bI_n, Classical.not_not] at *)
  (try have hp7 : plc (s.2 4) (s.1 6) (s.1 7) = k7 := hI.2.symm.trans (adv_n (fun h => h.elim c_3 c_5)))
  (try have hk := tok_sign hp7 c_6 c_8 c_10)
  (try have he := tok_end hp7 c_6)
  (try have hw := tok_word hI.2.1 hI.2.2.1)
  (try have ha : adv (isB (s.2 4) (s.1 6) 97 122) k9 = k7 := hI.2.2.2.1.symm.trans (adv_n c_3))
  (try have hcb := cw_b (t := s.2 4) (q := k9) x1.toNat (by omega) (fun i a => hI.2.2.2.2.1 i (by omega)))
  (try have hcm : (27 : Int) ^ x1.toNat ≤ 5559060566555523 := Int.le_trans (pow_mono' (by omega) (n := 11) (by omega)) (by decide))
  (try have hn := tok_num hI.2.1 hI.2.2.1.1 hI.2.2.1.2)
  (try have ha : adv (isB (s.2 4) (s.1 6) 48 57) k9 = k7 := hI.2.2.2.1.symm.trans (adv_n c_3))
  (try have hcv := cv_b (t := s.2 4) (q := k9) (k7 - k9).toNat (fun i a => hI.2.2.2.2.1 i (by omega)))
  (try unfold lex3)
  (try simp only [bI_0, bI_n, Classical.not_not] at *)
  (try simp (disch := omega) only [i32_id] at *)
  first | done | omega | ((repeat' (with_reducible apply And.intro)) <;> first | assumption | rfl | omega | (rw [← hI.2]; exact (adv_y isWs_T (Or.inl c_3)).symm) | (rw [← hI.2]; exact (adv_y isWs_T (Or.inr c_5)).symm) | (exact hp7) | (exact hp7.symm) | (exact (hk.2.1 c_12).symm) | (exact (hk.1 c_12).symm) | (exact hk.2.2.1.symm) | (exact hk.2.2.2.2.symm) | (exact hk.2.2.2.1.symm) | (exact he.2.1.symm) | (exact he.1.symm) | (exact he.2.2.2.symm) | (exact he.2.2.1.symm) | (exact c_8) | (exact c_10) | (intro i hi; omega) | (rw [show (k7 - k7).toNat = 0 by omega]; rfl) | (exact hI.2.1) | (exact hI.2.1.symm) | (exact hI.2.2.1) | (exact hI.2.2.1.1) | (exact hI.2.2.1.2) | (rw [hw.2.1, ha]) | (rw [hw.1]; exact hI.2.2.2.2.2.1) | (rw [hw.2.2.2]; exact hI.2.2.2.2.2.2.1) | (rw [hw.2.2.1, ha, show k7 - k9 = x1 by omega]; exact hI.2.2.2.2.2.2.2) | (rw [hn.2.1, ha]) | (rw [hn.1]; exact hI.2.2.2.2.2.1) | (rw [hn.2.2.2]; exact hI.2.2.2.2.2.2.1) | (rw [hn.2.2.1, ha]; exact hI.2.2.2.2.2.2.2) | (rw [← hI.2.2.2.1]; exact (adv_y isB_T c_3).symm) | (intro i hi; by_cases e : (i : Int) = x1; (focus (rw [e, ← hI.1.2.1]; omega)); (focus (exact hI.2.2.2.2.1 i (by omega)))) | (intro i hi; by_cases e : (i : Int) = k7 - k9; (focus (rw [e, show k9 + (k7 - k9) = k7 by omega]; omega)); (focus (exact hI.2.2.2.2.1 i (by omega)))) | (rw [cw_s _ _ hI.1.1, if_neg (by omega), ← hI.2.2.2.2.2.2.2, ← hI.1.2.1, i64_id (x := 27 * k11) (by omega) (by omega), i64_id (x := 27 * k11 + s.2 4 k7) (by omega) (by omega), i64_id (by omega) (by omega)]) | (rw [cw_s _ _ hI.1.1, if_pos (by omega)]) | (rw [show k7 + 1 - k9 = (k7 - k9) + 1 by omega, cv_s _ _ (by omega), if_neg (by omega), ← hI.2.2.2.2.2.2.2, show k9 + (k7 - k9) = k7 by omega]) | (rw [show k7 + 1 - k9 = (k7 - k9) + 1 by omega, cv_s _ _ (by omega), if_pos (by omega)]) | grind [upI])
theorem vcX3_next_51 (s : MS) (hp : 0 ≤ (s.1 7) ∧ (s.1 7) ≤ (s.1 6) ∧ (s.1 6) ≤ 800) (k7 : Int) (k8 : Int) (k9 : Int) (k10 : Int) (k11 : Int) (hI : (k9 ≤ k7 ∧ k7 ≤ s.1 6 ∧ 0 ≤ k9) ∧ plc (s.2 4) (s.1 6) (s.1 7) = k9 ∧ (¬ isB (s.2 4) (s.1 6) 97 122 k9 ∧ isB (s.2 4) (s.1 6) 48 57 k9) ∧ adv (isB (s.2 4) (s.1 6) 48 57) k7 = adv (isB (s.2 4) (s.1 6) 48 57) k9 ∧ (∀ i : Nat, i < k7 - k9 → 48 ≤ s.2 4 (k9 + i) ∧ s.2 4 (k9 + i) ≤ 57) ∧ k8 = 2 ∧ k11 = 0 ∧ k10 = cv (s.2 4) k9 (k7 - k9).toNat) (o_1 : (0 ≤ k7 ∧ (s.1 6) ≤ 800)) (c_3 : ¬ (bI (k7 < (s.1 6) ∧ (48 : Int) ≤ (s.2 4) k7 ∧ (s.2 4) k7 ≤ (57 : Int))) = 0) (c_4 : ¬ k10 ≤ 100000) : lex3 0 1 ((s.1 6 - (i32 (k7 + 1))).toNat) 0 1 ((s.1 6 - k7).toNat) := by
  (try simp only [bI_0, bI_n, Classical.not_not] at *)
  (try have hp7 : plc (s.2 4) (s.1 6) (s.1 7) = k7 := hI.2.symm.trans (adv_n (fun h => h.elim c_3 c_5)))
  (try have hk := tok_sign hp7 c_6 c_8 c_10)
  (try have he := tok_end hp7 c_6)
  (try have hw := tok_word hI.2.1 hI.2.2.1)
  (try have ha : adv (isB (s.2 4) (s.1 6) 97 122) k9 = k7 := hI.2.2.2.1.symm.trans (adv_n c_3))
  (try have hcb := cw_b (t := s.2 4) (q := k9) x1.toNat (by omega) (fun i a => hI.2.2.2.2.1 i (by omega)))
  (try have hcm : (27 : Int) ^ x1.toNat ≤ 5559060566555523 := Int.le_trans (pow_mono' (by omega) (n := 11) (by omega)) (by decide))
  (try have hn := tok_num hI.2.1 hI.2.2.1.1 hI.2.2.1.2)
  (try have ha : adv (isB (s.2 4) (s.1 6) 48 57) k9 = k7 := hI.2.2.2.1.symm.trans (adv_n c_3))
  (try have hcv := cv_b (t := s.2 4) (q := k9) (k7 - k9).toNat (fun i a => hI.2.2.2.2.1 i (by omega)))
  (try unfold lex3)
  (try simp only [bI_0, bI_n, Classical.not_not] at *)
  (try simp (disch := omega) only [i32_id] at *)
  first | done | omega | ((repeat' (with_reducible apply And.intro)) <;> first | assumption | rfl | omega | (rw [← hI.2]; exact (adv_y isWs_T (Or.inl c_3)).symm) | (rw [← hI.2]; exact (adv_y isWs_T (Or.inr c_5)).symm) | (exact hp7) | (exact hp7.symm) | (exact (hk.2.1 c_12).symm) | (exact (hk.1 c_12).symm) | (exact hk.2.2.1.symm) | (exact hk.2.2.2.2.symm) | (exact hk.2.2.2.1.symm) | (exact he.2.1.symm) | (exact he.1.symm) | (exact he.2.2.2.symm) | (exact he.2.2.1.symm) | (exact c_8) | (exact c_10) | (intro i hi; omega) | (rw [show (k7 - k7).toNat = 0 by omega]; rfl) | (exact hI.2.1) | (exact hI.2.1.symm) | (exact hI.2.2.1) | (exact hI.2.2.1.1) | (exact hI.2.2.1.2) | (rw [hw.2.1, ha]) | (rw [hw.1]; exact hI.2.2.2.2.2.1) | (rw [hw.2.2.2]; exact hI.2.2.2.2.2.2.1) | (rw [hw.2.2.1, ha, show k7 - k9 = x1 by omega]; exact hI.2.2.2.2.2.2.2) | (rw [hn.2.1, ha]) | (rw [hn.1]; exact hI.2.2.2.2.2.1) | (rw [hn.2.2.2]; exact hI.2.2.2.2.2.2.1) | (rw [hn.2.2.1, ha]; exact hI.2.2.2.2.2.2.2) | (rw [← hI.2.2.2.1]; exact (adv_y isB_T c_3).symm) | (intro i hi; by_cases e : (i : Int) = x1; (focus (rw [e, ← hI.1.2.1]; omega)); (focus (exact hI.2.2.2.2.1 i (by omega)))) | (intro i hi; by_cases e : (i : Int) = k7 - k9; (focus (rw [e, show k9 + (k7 - k9) = k7 by omega]; omega)); (focus (exact hI.2.2.2.2.1 i (by omega)))) | (rw [cw_s _ _ hI.1.1, if_neg (by omega), ← hI.2.2.2.2.2.2.2, ← hI.1.2.1, i64_id (x := 27 * k11) (by omega) (by omega), i64_id (x := 27 * k11 + s.2 4 k7) (by omega) (by omega), i64_id (by omega) (by omega)]) | (rw [cw_s _ _ hI.1.1, if_pos (by omega)]) | (rw [show k7 + 1 - k9 = (k7 - k9) + 1 by omega, cv_s _ _ (by omega), if_neg (by omega), ← hI.2.2.2.2.2.2.2, show k9 + (k7 - k9) = k7 by omega]) | (rw [show k7 + 1 - k9 = (k7 - k9) + 1 by omega, cv_s _ _ (by omega), if_pos (by omega)]) | grind [upI])
theorem vcX3_next_52 (s : MS) (hp : 0 ≤ (s.1 7) ∧ (s.1 7) ≤ (s.1 6) ∧ (s.1 6) ≤ 800) : (0 ≤ (s.1 7) ∧ (s.1 7) ≤ s.1 6) ∧ plc (s.2 4) (s.1 6) (s.1 7) = plc (s.2 4) (s.1 6) (s.1 7) := by
  (try simp only [bI_0, bI_n, Classical.not_not] at *)
  (try have hp7 : plc (s.2 4) (s.1 6) (s.1 7) = k7 := hI.2.symm.trans (adv_n (fun h => h.elim c_3 c_5)))
  (try have hk := tok_sign hp7 c_6 c_8 c_10)
  (try have he := tok_end hp7 c_6)
  (try have hw := tok_word hI.2.1 hI.2.2.1)
  (try have ha : adv (isB (s.2 4) (s.1 6) 97 122) k9 = k7 := hI.2.2.2.1.symm.trans (adv_n c_3))
  (try have hcb := cw_b (t := s.2 4) (q := k9) x1.toNat (by omega) (fun i a => hI.2.2.2.2.1 i (by omega)))
  (try have hcm : (27 : Int) ^ x1.toNat ≤ 5559060566555523 := Int.le_trans (pow_mono' (by omega) (n := 11) (by omega)) (by decide))
  (try have hn := tok_num hI.2.1 hI.2.2.1.1 hI.2.2.1.2)
  (try have ha : adv (isB (s.2 4) (s.1 6) 48 57) k9 = k7 := hI.2.2.2.1.symm.trans (adv_n c_3))
  (try have hcv := cv_b (t := s.2 4) (q := k9) (k7 - k9).toNat (fun i a => hI.2.2.2.2.1 i (by omega)))
  (try unfold lex3)
  (try simp only [bI_0, bI_n, Classical.not_not] at *)
  (try simp (disch := omega) only [i32_id] at *)
  first | done | omega | ((repeat' (with_reducible apply And.intro)) <;> first | assumption | rfl | omega | (rw [← hI.2]; exact (adv_y isWs_T (Or.inl c_3)).symm) | (rw [← hI.2]; exact (adv_y isWs_T (Or.inr c_5)).symm) | (exact hp7) | (exact hp7.symm) | (exact (hk.2.1 c_12).symm) | (exact (hk.1 c_12).symm) | (exact hk.2.2.1.symm) | (exact hk.2.2.2.2.symm) | (exact hk.2.2.2.1.symm) | (exact he.2.1.symm) | (exact he.1.symm) | (exact he.2.2.2.symm) | (exact he.2.2.1.symm) | (exact c_8) | (exact c_10) | (intro i hi; omega) | (rw [show (k7 - k7).toNat = 0 by omega]; rfl) | (exact hI.2.1) | (exact hI.2.1.symm) | (exact hI.2.2.1) | (exact hI.2.2.1.1) | (exact hI.2.2.1.2) | (rw [hw.2.1, ha]) | (rw [hw.1]; exact hI.2.2.2.2.2.1) | (rw [hw.2.2.2]; exact hI.2.2.2.2.2.2.1) | (rw [hw.2.2.1, ha, show k7 - k9 = x1 by omega]; exact hI.2.2.2.2.2.2.2) | (rw [hn.2.1, ha]) | (rw [hn.1]; exact hI.2.2.2.2.2.1) | (rw [hn.2.2.2]; exact hI.2.2.2.2.2.2.1) | (rw [hn.2.2.1, ha]; exact hI.2.2.2.2.2.2.2) | (rw [← hI.2.2.2.1]; exact (adv_y isB_T c_3).symm) | (intro i hi; by_cases e : (i : Int) = x1; (focus (rw [e, ← hI.1.2.1]; omega)); (focus (exact hI.2.2.2.2.1 i (by omega)))) | (intro i hi; by_cases e : (i : Int) = k7 - k9; (focus (rw [e, show k9 + (k7 - k9) = k7 by omega]; omega)); (focus (exact hI.2.2.2.2.1 i (by omega)))) | (rw [cw_s _ _ hI.1.1, if_neg (by omega), ← hI.2.2.2.2.2.2.2, ← hI.1.2.1, i64_id (x := 27 * k11) (by omega) (by omega), i64_id (x := 27 * k11 + s.2 4 k7) (by omega) (by omega), i64_id (by omega) (by omega)]) | (rw [cw_s _ _ hI.1.1, if_pos (by omega)]) | (rw [show k7 + 1 - k9 = (k7 - k9) + 1 by omega, cv_s _ _ (by omega), if_neg (by omega), ← hI.2.2.2.2.2.2.2, show k9 + (k7 - k9) = k7 by omega]) | (rw [show k7 + 1 - k9 = (k7 - k9) + 1 by omega, cv_s _ _ (by omega), if_pos (by omega)]) | grind [upI])
theorem allX3_next (b : AH) (s : MS) (hp : 0 ≤ (s.1 7) ∧ (s.1 7) ≤ (s.1 6) ∧ (s.1 6) ≤ 800) : ∀ m1 m2 m3 : Nat, (∀ (k7 : Int) (k8 : Int) (k9 : Int) (k10 : Int) (k11 : Int), m1 = 0 → m2 = 2 → m3 = ((s.1 6 - k7).toNat) → ((0 ≤ k7 ∧ k7 ≤ s.1 6) ∧ plc (s.2 4) (s.1 6) k7 = plc (s.2 4) (s.1 6) (s.1 7)) → HX3_next_0 (QX3_next s) b s k7 k8 k9 k10 k11) ∧ (∀ (x1 : Int) (k7 : Int) (k8 : Int) (k9 : Int) (k10 : Int) (k11 : Int), m1 = 0 → m2 = 1 → m3 = ((s.1 6 - k7).toNat) → ((0 ≤ x1 ∧ k7 = k9 + x1 ∧ k7 ≤ s.1 6 ∧ 0 ≤ k9) ∧ plc (s.2 4) (s.1 6) (s.1 7) = k9 ∧ isB (s.2 4) (s.1 6) 97 122 k9 ∧ adv (isB (s.2 4) (s.1 6) 97 122) k7 = adv (isB (s.2 4) (s.1 6) 97 122) k9 ∧ (∀ i : Nat, i < x1 → 97 ≤ s.2 4 (k9 + i) ∧ s.2 4 (k9 + i) ≤ 122) ∧ k8 = 1 ∧ k10 = 0 ∧ k11 = cw (s.2 4) k9 x1.toNat) → HX3_next_102 (QX3_next s) b s x1 k7 k8 k9 k10 k11) ∧ (∀ (k7 : Int) (k8 : Int) (k9 : Int) (k10 : Int) (k11 : Int), m1 = 0 → m2 = 1 → m3 = ((s.1 6 - k7).toNat) → ((k9 ≤ k7 ∧ k7 ≤ s.1 6 ∧ 0 ≤ k9) ∧ plc (s.2 4) (s.1 6) (s.1 7) = k9 ∧ (¬ isB (s.2 4) (s.1 6) 97 122 k9 ∧ isB (s.2 4) (s.1 6) 48 57 k9) ∧ adv (isB (s.2 4) (s.1 6) 48 57) k7 = adv (isB (s.2 4) (s.1 6) 48 57) k9 ∧ (∀ i : Nat, i < k7 - k9 → 48 ≤ s.2 4 (k9 + i) ∧ s.2 4 (k9 + i) ≤ 57) ∧ k8 = 2 ∧ k11 = 0 ∧ k10 = cv (s.2 4) k9 (k7 - k9).toNat) → HX3_next_208 (QX3_next s) b s k7 k8 k9 k10 k11) := by
  refine lex3_ind ?_
  intro m1 m2 m3 ih
  refine ⟨?_, ?_, ?_⟩
  · rintro k7 k8 k9 k10 k11 rfl rfl rfl hI
    refine bX3_next_0 b s k7 k8 k9 k10 k11 ?_
    have o_1 : (0 ≤ k7 ∧ (s.1 6) ≤ 800) := (vcX3_next_1 s hp k7 k8 k9 k10 k11 hI)
    refine ⟨o_1, ?_⟩
    refine ⟨fun c_3 => ?_, fun c_3 => ?_⟩
    · exact (ih _ _ _ (vcX3_next_3 s hp k7 k8 k9 k10 k11 hI o_1 c_3)).1 (i32 (k7 + 1)) k8 k9 k10 k11 rfl rfl rfl (vcX3_next_2 s hp k7 k8 k9 k10 k11 hI o_1 c_3)
    · refine ⟨fun c_5 => ?_, fun c_5 => ?_⟩
      · refine ⟨fun c_6 => ?_, fun c_6 => ?_⟩
        · refine ⟨fun c_8 => ?_, fun c_8 => ?_⟩
          · refine ⟨fun c_10 => ?_, fun c_10 => ?_⟩
            · have o_11 : (0 ≤ k7 ∧ k7 < 800) := (vcX3_next_4 s hp k7 k8 k9 k10 k11 hI o_1 c_3 c_5 c_6 c_8 c_10)
              refine ⟨o_11, ?_⟩
              refine ⟨fun c_12 => ?_, fun c_12 => ?_⟩
              · exact ⟨rfl, (sS_c (sS_c (sS_c (sS_c (sS_c rfl (vcX3_next_5 s hp k7 k8 k9 k10 k11 hI o_1 c_3 c_5 c_6 c_8 c_10 o_11 c_12)) (vcX3_next_6 s hp k7 k8 k9 k10 k11 hI o_1 c_3 c_5 c_6 c_8 c_10 o_11 c_12)) (vcX3_next_7 s hp k7 k8 k9 k10 k11 hI o_1 c_3 c_5 c_6 c_8 c_10 o_11 c_12)) (vcX3_next_8 s hp k7 k8 k9 k10 k11 hI o_1 c_3 c_5 c_6 c_8 c_10 o_11 c_12)) (vcX3_next_9 s hp k7 k8 k9 k10 k11 hI o_1 c_3 c_5 c_6 c_8 c_10 o_11 c_12))⟩
              · exact ⟨rfl, (sS_c (sS_c (sS_c (sS_c (sS_c rfl (vcX3_next_10 s hp k7 k8 k9 k10 k11 hI o_1 c_3 c_5 c_6 c_8 c_10 o_11 c_12)) (vcX3_next_11 s hp k7 k8 k9 k10 k11 hI o_1 c_3 c_5 c_6 c_8 c_10 o_11 c_12)) (vcX3_next_12 s hp k7 k8 k9 k10 k11 hI o_1 c_3 c_5 c_6 c_8 c_10 o_11 c_12)) (vcX3_next_13 s hp k7 k8 k9 k10 k11 hI o_1 c_3 c_5 c_6 c_8 c_10 o_11 c_12)) (vcX3_next_14 s hp k7 k8 k9 k10 k11 hI o_1 c_3 c_5 c_6 c_8 c_10 o_11 c_12))⟩
            · exact (ih _ _ _ (vcX3_next_16 s hp k7 k8 k9 k10 k11 hI o_1 c_3 c_5 c_6 c_8 c_10)).2.2 k7 2 k7 0 0 rfl rfl rfl (vcX3_next_15 s hp k7 k8 k9 k10 k11 hI o_1 c_3 c_5 c_6 c_8 c_10)
          · exact (ih _ _ _ (vcX3_next_18 s hp k7 k8 k9 k10 k11 hI o_1 c_3 c_5 c_6 c_8)).2.1 0 k7 1 k7 0 0 rfl rfl rfl (vcX3_next_17 s hp k7 k8 k9 k10 k11 hI o_1 c_3 c_5 c_6 c_8)
        · exact ⟨rfl, (sS_c (sS_c (sS_c (sS_c (sS_c rfl (vcX3_next_19 s hp k7 k8 k9 k10 k11 hI o_1 c_3 c_5 c_6)) (vcX3_next_20 s hp k7 k8 k9 k10 k11 hI o_1 c_3 c_5 c_6)) (vcX3_next_21 s hp k7 k8 k9 k10 k11 hI o_1 c_3 c_5 c_6)) (vcX3_next_22 s hp k7 k8 k9 k10 k11 hI o_1 c_3 c_5 c_6)) (vcX3_next_23 s hp k7 k8 k9 k10 k11 hI o_1 c_3 c_5 c_6))⟩
      · exact (ih _ _ _ (vcX3_next_25 s hp k7 k8 k9 k10 k11 hI o_1 c_3 c_5)).1 (i32 (k7 + 1)) k8 k9 k10 k11 rfl rfl rfl (vcX3_next_24 s hp k7 k8 k9 k10 k11 hI o_1 c_3 c_5)
  · rintro x1 k7 k8 k9 k10 k11 rfl rfl rfl hI
    refine bX3_next_102 b s x1 k7 k8 k9 k10 k11 ?_
    have o_1 : (0 ≤ k7 ∧ (s.1 6) ≤ 800) := (vcX3_next_26 s hp x1 k7 k8 k9 k10 k11 hI)
    refine ⟨o_1, ?_⟩
    refine ⟨fun c_3 => ?_, fun c_3 => ?_⟩
    · exact ⟨rfl, (sS_c (sS_c (sS_c (sS_c (sS_c rfl (vcX3_next_27 s hp x1 k7 k8 k9 k10 k11 hI o_1 c_3)) (vcX3_next_28 s hp x1 k7 k8 k9 k10 k11 hI o_1 c_3)) (vcX3_next_29 s hp x1 k7 k8 k9 k10 k11 hI o_1 c_3)) (vcX3_next_30 s hp x1 k7 k8 k9 k10 k11 hI o_1 c_3)) (vcX3_next_31 s hp x1 k7 k8 k9 k10 k11 hI o_1 c_3))⟩
    · refine ⟨fun c_4 => ?_, fun c_4 => ?_⟩
      · have o_5 : (0 ≤ k7 ∧ k7 < 800) := (vcX3_next_32 s hp x1 k7 k8 k9 k10 k11 hI o_1 c_3 c_4)
        refine ⟨o_5, ?_⟩
        refine ⟨fun c_6 => ?_, fun c_6 => ?_⟩
        · exact (ih _ _ _ (vcX3_next_34 s hp x1 k7 k8 k9 k10 k11 hI o_1 c_3 c_4 o_5 c_6)).2.1 (i32 (x1 + 1)) (i32 (k7 + 1)) k8 k9 k10 (i64 ((i64 ((i64 (27 * k11)) + (s.2 4 k7))) - 96)) rfl rfl rfl (vcX3_next_33 s hp x1 k7 k8 k9 k10 k11 hI o_1 c_3 c_4 o_5 c_6)
        · exact (ih _ _ _ (vcX3_next_36 s hp x1 k7 k8 k9 k10 k11 hI o_1 c_3 c_4 o_5 c_6)).2.1 (i32 (x1 + 1)) (i32 (k7 + 1)) k8 k9 k10 (-1) rfl rfl rfl (vcX3_next_35 s hp x1 k7 k8 k9 k10 k11 hI o_1 c_3 c_4 o_5 c_6)
      · refine ⟨fun c_7 => ?_, fun c_7 => ?_⟩
        · exact (ih _ _ _ (vcX3_next_38 s hp x1 k7 k8 k9 k10 k11 hI o_1 c_3 c_4 c_7)).2.1 (i32 (x1 + 1)) (i32 (k7 + 1)) k8 k9 k10 (-1) rfl rfl rfl (vcX3_next_37 s hp x1 k7 k8 k9 k10 k11 hI o_1 c_3 c_4 c_7)
        · exact (ih _ _ _ (vcX3_next_40 s hp x1 k7 k8 k9 k10 k11 hI o_1 c_3 c_4 c_7)).2.1 (i32 (x1 + 1)) (i32 (k7 + 1)) k8 k9 k10 (-1) rfl rfl rfl (vcX3_next_39 s hp x1 k7 k8 k9 k10 k11 hI o_1 c_3 c_4 c_7)
  · rintro k7 k8 k9 k10 k11 rfl rfl rfl hI
    refine bX3_next_208 b s k7 k8 k9 k10 k11 ?_
    have o_1 : (0 ≤ k7 ∧ (s.1 6) ≤ 800) := (vcX3_next_41 s hp k7 k8 k9 k10 k11 hI)
    refine ⟨o_1, ?_⟩
    refine ⟨fun c_3 => ?_, fun c_3 => ?_⟩
    · exact ⟨rfl, (sS_c (sS_c (sS_c (sS_c (sS_c rfl (vcX3_next_42 s hp k7 k8 k9 k10 k11 hI o_1 c_3)) (vcX3_next_43 s hp k7 k8 k9 k10 k11 hI o_1 c_3)) (vcX3_next_44 s hp k7 k8 k9 k10 k11 hI o_1 c_3)) (vcX3_next_45 s hp k7 k8 k9 k10 k11 hI o_1 c_3)) (vcX3_next_46 s hp k7 k8 k9 k10 k11 hI o_1 c_3))⟩
    · refine ⟨fun c_4 => ?_, fun c_4 => ?_⟩
      · have o_5 : (0 ≤ k7 ∧ k7 < 800) := (vcX3_next_47 s hp k7 k8 k9 k10 k11 hI o_1 c_3 c_4)
        refine ⟨o_5, ?_⟩
        exact (ih _ _ _ (vcX3_next_49 s hp k7 k8 k9 k10 k11 hI o_1 c_3 c_4 o_5)).2.2 (i32 (k7 + 1)) k8 k9 (i32 ((i32 ((i32 (10 * k10)) + (s.2 4 k7))) - 48)) k11 rfl rfl rfl (vcX3_next_48 s hp k7 k8 k9 k10 k11 hI o_1 c_3 c_4 o_5)
      · exact (ih _ _ _ (vcX3_next_51 s hp k7 k8 k9 k10 k11 hI o_1 c_3 c_4)).2.2 (i32 (k7 + 1)) k8 k9 1000000 k11 rfl rfl rfl (vcX3_next_50 s hp k7 k8 k9 k10 k11 hI o_1 c_3 c_4)
theorem ctX3_next (b : AH) (s : MS) (hp : 0 ≤ (s.1 7) ∧ (s.1 7) ≤ (s.1 6) ∧ (s.1 6) ≤ 800) : MC mX3_next 2 b s [] (QX3_next s) := by
  refine MC.of (by decide) rfl (Nat.le_of_ble_eq_true rfl) (JW.steq (s2 := sS (sS (sS (sS (sS s 7 (s.1 7)) 8 (s.1 8)) 9 (s.1 9)) 10 (s.1 10)) 11 (s.1 11)) (by simp only [sA_id, sS_id]) ?_)
  exact JW.pick [0] rfl ((allX3_next b s hp _ _ _).1 (s.1 7) (s.1 8) (s.1 9) (s.1 10) (s.1 11) rfl rfl rfl (vcX3_next_52 s hp))
