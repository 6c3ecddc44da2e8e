/-! contracts of the reference: number sortHere -/
set_option maxRecDepth 100000
def HX3_number_0 (Q : Option AV → MS → Prop) (b : AH) (s : MS) (x1 : Int) (x3 : Int) (x4 : Int) (k7 : Int) (k8 : Int) (k9 : Int) (k10 : Int) (k11 : Int) (k12 : Int) (k13 : Int) : Prop := MW mX3_number 5 Q b 0 [(0, vR 351), (1, vL x1), (3, vI x3), (4, vI x4)] [] (sS (sS (sS (sS (sS (sS (sS s 7 k7) 8 k8) 9 k9) 10 k10) 11 k11) 12 k12) 13 k13)
theorem bX3_number_0 {Q : Option AV → MS → Prop} (b : AH) (s : MS) (x1 : Int) (x3 : Int) (x4 : Int) (k7 : Int) (k8 : Int) (k9 : Int) (k10 : Int) (k11 : Int) (k12 : Int) (k13 : Int) (K : (0 ≤ k7 ∧ k7 ≤ (s.1 6) ∧ (s.1 6) ≤ 800) ∧ ((∀ (k_2 : Int) (k_3 : Int) (k_4 : Int) (k_5 : Int) (k_6 : Int) (k_7 : Int) (k_8 : Int), (needQ (s.2 4) (s.1 6) x1 k7 k8 k9 k10 k11 k12 k13 k_2 k_3 k_4 k_5 k_6 k_7 k_8) → (0 ≤ k_2 ∧ k_2 ≤ (s.1 6) ∧ (s.1 6) ≤ 800) ∧ ((∀ (k_11 : Int) (k_12 : Int) (k_13 : Int) (k_14 : Int) (k_15 : Int) (k_16 : Int) (k_17 : Int) (r_18 : Int), (numQ (s.2 4) (s.1 6) x3 x4 k_2 k_3 k_4 k_5 k_6 k_7 k_8 k_11 k_12 k_13 k_14 k_15 k_16 k_17 r_18) → Q (some (vI r_18)) (sS (sS (sS (sS (sS (sS (sS s 7 k_11) 8 k_12) 9 k_13) 10 k_14) 11 k_15) 12 k_16) 13 k_17)))))) : HX3_number_0 Q b s x1 x3 x4 k7 k8 k9 k10 k11 k12 k13 := by
  refine JW.aload_n dX3_number_0 rfl ?_
  refine JW.lload_n dX3_number_1 rfl ?_
  obtain ⟨o_1, K⟩ := K
  refine JW.mcall (As := [vL x1]) dX3_number_2 vX3_asks rfl q1696 (ctX3_asks b (sS (sS (sS (sS (sS (sS (sS s 7 k7) 8 k8) 9 k9) 10 k10) 11 k11) 12 k12) 13 k13) x1 o_1) (Nat.le_of_ble_eq_true rfl) rfl (Nat.le_of_ble_eq_true rfl) ?_
  rintro _ _ ⟨k_2, k_3, k_4, k_5, k_6, k_7, k_8, rfl, rfl, q_9⟩
  refine JW.steq (s2 := sS (sS (sS (sS (sS (sS (sS s 7 k_2) 8 k_3) 9 k_4) 10 k_5) 11 k_6) 12 k_7) 13 k_8) (by simp only [sA_A, sS_S, sA_S, sA_lt, sS_lt, Nat.reduceLT, id_eq] <;> rfl) ?_
  replace K := K k_2 k_3 k_4 k_5 k_6 k_7 k_8 q_9
  refine JW.aload_n dX3_number_5 rfl ?_
  refine JW.iload_n dX3_number_6 rfl ?_
  refine JW.iload dX3_number_7 rfl ?_
  obtain ⟨o_10, K⟩ := K
  refine JW.mcall (As := [vI x3, vI x4]) dX3_number_9 vX3_number_2 rfl q1717 (ctX3_number_2 b (sS (sS (sS (sS (sS (sS (sS s 7 k_2) 8 k_3) 9 k_4) 10 k_5) 11 k_6) 12 k_7) 13 k_8) x3 x4 o_10) (Nat.le_of_ble_eq_true rfl) rfl (Nat.le_of_ble_eq_true rfl) ?_
  rintro _ _ ⟨k_11, k_12, k_13, k_14, k_15, k_16, k_17, r_18, rfl, rfl, q_19⟩
  refine JW.steq (s2 := sS (sS (sS (sS (sS (sS (sS s 7 k_11) 8 k_12) 9 k_13) 10 k_14) 11 k_15) 12 k_16) 13 k_17) (by simp only [sA_A, sS_S, sA_S, sA_lt, sS_lt, Nat.reduceLT, id_eq] <;> rfl) ?_
  replace K := K k_11 k_12 k_13 k_14 k_15 k_16 k_17 r_18 q_19
  exact JW.ireturn dX3_number_12 rfl rfl ⟨_, rfl, K⟩
def QX3_number (s : MS) (a1 : Int) (a2 : Int) (a3 : Int) : Option AV → MS → Prop := fun v s' => ∃ (k7 : Int) (k8 : Int) (k9 : Int) (k10 : Int) (k11 : Int) (k12 : Int) (k13 : Int) (r : Int), v = some (vI r) ∧ s' = sS (sS (sS (sS (sS (sS (sS s 7 k7) 8 k8) 9 k9) 10 k10) 11 k11) 12 k12) 13 k13 ∧ (wnumQ (s.2 4) (s.1 6) a1 a2 a3 (s.1 7) (s.1 8) (s.1 9) (s.1 10) (s.1 11) (s.1 12) (s.1 13) k7 k8 k9 k10 k11 k12 k13 r)
theorem vcX3_number_1 (s : MS) (a1 : Int) (a2 : Int) (a3 : Int) (hp : 0 ≤ (s.1 7) ∧ (s.1 7) ≤ (s.1 6) ∧ (s.1 6) ≤ 800) : (0 ≤ (s.1 7) ∧ (s.1 7) ≤ (s.1 6) ∧ (s.1 6) ≤ 800) := by
  (try unfold lex3)
  (try simp only [bI_0, bI_n, Classical.not_not] at *)
  (try simp (disch := omega) only [i32_id] at *)
  first | done | omega | ((repeat' (with_reducible apply And.intro)) <;> first | assumption | rfl | omega | (exact wnumQ_of (by assumption) (by assumption)) | (exact (‹needQ _ _ _ _ _ _ _ _ _ _ _ _ _ _ _ _ _›).1.1) | (exact (‹needQ _ _ _ _ _ _ _ _ _ _ _ _ _ _ _ _ _›).1.2) | grind [upI])
theorem vcX3_number_2 (s : MS) (a1 : Int) (a2 : Int) (a3 : Int) (hp : 0 ≤ (s.1 7) ∧ (s.1 7) ≤ (s.1 6) ∧ (s.1 6) ≤ 800) (o_1 : (0 ≤ (s.1 7) ∧ (s.1 7) ≤ (s.1 6) ∧ (s.1 6) ≤ 800)) (k_2 : Int) (k_3 : Int) (k_4 : Int) (k_5 : Int) (k_6 : Int) (k_7 : Int) (k_8 : Int) (q_9 : (needQ (s.2 4) (s.1 6) a1 (s.1 7) (s.1 8) (s.1 9) (s.1 10) (s.1 11) (s.1 12) (s.1 13) k_2 k_3 k_4 k_5 k_6 k_7 k_8)) : (0 ≤ k_2 ∧ k_2 ≤ (s.1 6) ∧ (s.1 6) ≤ 800) := by
  (try unfold lex3)
  (try simp only [bI_0, bI_n, Classical.not_not] at *)
  (try simp (disch := omega) only [i32_id] at *)
  first | done | omega | ((repeat' (with_reducible apply And.intro)) <;> first | assumption | rfl | omega | (exact wnumQ_of (by assumption) (by assumption)) | (exact (‹needQ _ _ _ _ _ _ _ _ _ _ _ _ _ _ _ _ _›).1.1) | (exact (‹needQ _ _ _ _ _ _ _ _ _ _ _ _ _ _ _ _ _›).1.2) | grind [upI])
theorem vcX3_number_3 (s : MS) (a1 : Int) (a2 : Int) (a3 : Int) (hp : 0 ≤ (s.1 7) ∧ (s.1 7) ≤ (s.1 6) ∧ (s.1 6) ≤ 800) (o_1 : (0 ≤ (s.1 7) ∧ (s.1 7) ≤ (s.1 6) ∧ (s.1 6) ≤ 800)) (k_2 : Int) (k_3 : Int) (k_4 : Int) (k_5 : Int) (k_6 : Int) (k_7 : Int) (k_8 : Int) (q_9 : (needQ (s.2 4) (s.1 6) a1 (s.1 7) (s.1 8) (s.1 9) (s.1 10) (s.1 11) (s.1 12) (s.1 13) k_2 k_3 k_4 k_5 k_6 k_7 k_8)) (o_10 : (0 ≤ k_2 ∧ k_2 ≤ (s.1 6) ∧ (s.1 6) ≤ 800)) (k_11 : Int) (k_12 : Int) (k_13 : Int) (k_14 : Int) (k_15 : Int) (k_16 : Int) (k_17 : Int) (r_18 : Int) (q_19 : (numQ (s.2 4) (s.1 6) a2 a3 k_2 k_3 k_4 k_5 k_6 k_7 k_8 k_11 k_12 k_13 k_14 k_15 k_16 k_17 r_18)) : wnumQ (s.2 4) (s.1 6) a1 a2 a3 (s.1 7) (s.1 8) (s.1 9) (s.1 10) (s.1 11) (s.1 12) (s.1 13) k_11 k_12 k_13 k_14 k_15 k_16 k_17 r_18 := by
  (try unfold lex3)
  (try simp only [bI_0, bI_n, Classical.not_not] at *)
  (try simp (disch := omega) only [i32_id] at *)
  first | done | omega | ((repeat' (with_reducible apply And.intro)) <;> first | assumption | rfl | omega | (exact wnumQ_of (by assumption) (by assumption)) | (exact (‹needQ _ _ _ _ _ _ _ _ _ _ _ _ _ _ _ _ _›).1.1) | (exact (‹needQ _ _ _ _ _ _ _ _ _ _ _ _ _ _ _ _ _›).1.2) | grind [upI])
theorem ctX3_number (b : AH) (s : MS) (a1 : Int) (a2 : Int) (a3 : Int) (hp : 0 ≤ (s.1 7) ∧ (s.1 7) ≤ (s.1 6) ∧ (s.1 6) ≤ 800) : MC mX3_number 5 b s [vL a1, vI a2, vI a3] (QX3_number s a1 a2 a3) := by
  refine MC.of (by decide) rfl (Nat.le_of_ble_eq_true rfl) (JW.steq (s2 := sS (sS (sS (sS (sS (sS (sS s 7 (s.1 7)) 8 (s.1 8)) 9 (s.1 9)) 10 (s.1 10)) 11 (s.1 11)) 12 (s.1 12)) 13 (s.1 13)) (by simp only [sA_id, sS_id]) ?_)
  refine bX3_number_0 b s a1 a2 a3 (s.1 7) (s.1 8) (s.1 9) (s.1 10) (s.1 11) (s.1 12) (s.1 13) ?_
  have o_1 : (0 ≤ (s.1 7) ∧ (s.1 7) ≤ (s.1 6) ∧ (s.1 6) ≤ 800) := (vcX3_number_1 s a1 a2 a3 hp)
  refine ⟨o_1, ?_⟩
  intro k_2 k_3 k_4 k_5 k_6 k_7 k_8 q_9
  have o_10 : (0 ≤ k_2 ∧ k_2 ≤ (s.1 6) ∧ (s.1 6) ≤ 800) := (vcX3_number_2 s a1 a2 a3 hp o_1 k_2 k_3 k_4 k_5 k_6 k_7 k_8 q_9)
  refine ⟨o_10, ?_⟩
  intro k_11 k_12 k_13 k_14 k_15 k_16 k_17 r_18 q_19
  exact ⟨k_11, k_12, k_13, k_14, k_15, k_16, k_17, r_18, rfl, rfl, (vcX3_number_3 s a1 a2 a3 hp o_1 k_2 k_3 k_4 k_5 k_6 k_7 k_8 q_9 o_10 k_11 k_12 k_13 k_14 k_15 k_16 k_17 r_18 q_19)⟩
def HX3_sortHere_0 (Q : Option AV → MS → Prop) (b : AH) (s : MS) : Prop := MW mX3_sortHere 2 Q b 0 [(0, vR 351)] [] s
theorem bX3_sortHere_0 {Q : Option AV → MS → Prop} (b : AH) (s : MS) (K : ((bI ((s.1 12) = 0 ∧ (s.1 8) = 1 ∧ (s.1 11) = (90302 : Int))) = 0 → ((bI ((s.1 12) = 0 ∧ (s.1 8) = 1 ∧ (s.1 11) = (583 : Int))) = 0 → ((bI ((s.1 12) = 0 ∧ (s.1 8) = 1 ∧ (s.1 11) = (409469 : Int))) = 0 → ((bI ((s.1 12) = 0 ∧ (s.1 8) = 1 ∧ (s.1 11) = (220309 : Int))) = 0 → ((bI ((s.1 12) = 0 ∧ (s.1 8) = 1 ∧ (s.1 11) = (40187 : Int))) = 0 → ((bI ((s.1 12) = 0 ∧ (s.1 8) = 1 ∧ (s.1 11) = (240373 : Int))) = 0 → ((bI ((s.1 12) = 0 ∧ (s.1 8) = 1 ∧ (s.1 11) = (841 : Int))) = 0 → ((bI ((s.1 12) = 0 ∧ (s.1 8) = 1 ∧ (s.1 11) = (282078293 : Int))) = 0 → ((bI ((s.1 12) = 0 ∧ (s.1 8) = 1 ∧ (s.1 11) = (74417 : Int))) = 0 → ((bI ((s.1 12) = 0 ∧ (s.1 8) = 1 ∧ (s.1 11) = (14431 : Int))) = 0 → ((bI ((s.1 12) = 0 ∧ (s.1 8) = 1 ∧ (s.1 11) = (158523 : Int))) = 0 → ((bI ((s.1 12) = 0 ∧ (s.1 8) = 1 ∧ (s.1 11) = (3379448 : Int))) = 0 → ((bI ((s.1 12) = 0 ∧ (s.1 8) = 1 ∧ (s.1 11) = (10815598 : Int))) = 0 → ((bI ((s.1 12) = 0 ∧ (s.1 8) = 1 ∧ (s.1 11) = (324262 : Int))) = 0 → ((bI ((s.1 12) = 0 ∧ (s.1 8) = 1 ∧ (s.1 11) = (11522 : Int))) = 0 → Q (some (vI (-1))) s) ∧ (¬ (bI ((s.1 12) = 0 ∧ (s.1 8) = 1 ∧ (s.1 11) = (11522 : Int))) = 0 → Q (some (vI 14)) s)) ∧ (¬ (bI ((s.1 12) = 0 ∧ (s.1 8) = 1 ∧ (s.1 11) = (324262 : Int))) = 0 → Q (some (vI 13)) s)) ∧ (¬ (bI ((s.1 12) = 0 ∧ (s.1 8) = 1 ∧ (s.1 11) = (10815598 : Int))) = 0 → Q (some (vI 12)) s)) ∧ (¬ (bI ((s.1 12) = 0 ∧ (s.1 8) = 1 ∧ (s.1 11) = (3379448 : Int))) = 0 → Q (some (vI 11)) s)) ∧ (¬ (bI ((s.1 12) = 0 ∧ (s.1 8) = 1 ∧ (s.1 11) = (158523 : Int))) = 0 → Q (some (vI 10)) s)) ∧ (¬ (bI ((s.1 12) = 0 ∧ (s.1 8) = 1 ∧ (s.1 11) = (14431 : Int))) = 0 → Q (some (vI 9)) s)) ∧ (¬ (bI ((s.1 12) = 0 ∧ (s.1 8) = 1 ∧ (s.1 11) = (74417 : Int))) = 0 → Q (some (vI 8)) s)) ∧ (¬ (bI ((s.1 12) = 0 ∧ (s.1 8) = 1 ∧ (s.1 11) = (282078293 : Int))) = 0 → Q (some (vI 7)) s)) ∧ (¬ (bI ((s.1 12) = 0 ∧ (s.1 8) = 1 ∧ (s.1 11) = (841 : Int))) = 0 → Q (some (vI 6)) s)) ∧ (¬ (bI ((s.1 12) = 0 ∧ (s.1 8) = 1 ∧ (s.1 11) = (240373 : Int))) = 0 → Q (some (vI 5)) s)) ∧ (¬ (bI ((s.1 12) = 0 ∧ (s.1 8) = 1 ∧ (s.1 11) = (40187 : Int))) = 0 → Q (some (vI 4)) s)) ∧ (¬ (bI ((s.1 12) = 0 ∧ (s.1 8) = 1 ∧ (s.1 11) = (220309 : Int))) = 0 → Q (some (vI 3)) s)) ∧ (¬ (bI ((s.1 12) = 0 ∧ (s.1 8) = 1 ∧ (s.1 11) = (409469 : Int))) = 0 → Q (some (vI 2)) s)) ∧ (¬ (bI ((s.1 12) = 0 ∧ (s.1 8) = 1 ∧ (s.1 11) = (583 : Int))) = 0 → Q (some (vI 1)) s)) ∧ (¬ (bI ((s.1 12) = 0 ∧ (s.1 8) = 1 ∧ (s.1 11) = (90302 : Int))) = 0 → Q (some (vI 0)) s)) : HX3_sortHere_0 Q b s  := by
  refine JW.aload_n dX3_sortHere_0 rfl ?_
  refine JW.ldc2 (x := 90302) dX3_sortHere_1 q1745 rfl ?_
  refine JW.mcall (As := [vL 90302]) dX3_sortHere_4 vX3_is rfl q1704 (ctX3_is b s 90302) (Nat.le_of_ble_eq_true rfl) rfl (Nat.le_of_ble_eq_true rfl) ?_
  rintro _ _ ⟨rfl, eq_1⟩
  refine JW.steq (s2 := s) eq_1 ?_
  refine JW.if_eq (tgt := 14) dX3_sortHere_7 rfl (fun c_2 => ?_) (fun c_2 => ?_)
  · have K := K.1 c_2
    refine JW.aload_n dX3_sortHere_14 rfl ?_
    refine JW.ldc2 (x := 583) dX3_sortHere_15 q1746 rfl ?_
    refine JW.mcall (As := [vL 583]) dX3_sortHere_18 vX3_is rfl q1704 (ctX3_is b s 583) (Nat.le_of_ble_eq_true rfl) rfl (Nat.le_of_ble_eq_true rfl) ?_
    rintro _ _ ⟨rfl, eq_3⟩
    refine JW.steq (s2 := s) eq_3 ?_
    refine JW.if_eq (tgt := 28) dX3_sortHere_21 rfl (fun c_4 => ?_) (fun c_4 => ?_)
    · have K := K.1 c_4
      refine JW.aload_n dX3_sortHere_28 rfl ?_
      refine JW.ldc2 (x := 409469) dX3_sortHere_29 q1747 rfl ?_
      refine JW.mcall (As := [vL 409469]) dX3_sortHere_32 vX3_is rfl q1704 (ctX3_is b s 409469) (Nat.le_of_ble_eq_true rfl) rfl (Nat.le_of_ble_eq_true rfl) ?_
      rintro _ _ ⟨rfl, eq_5⟩
      refine JW.steq (s2 := s) eq_5 ?_
      refine JW.if_eq (tgt := 42) dX3_sortHere_35 rfl (fun c_6 => ?_) (fun c_6 => ?_)
      · have K := K.1 c_6
        refine JW.aload_n dX3_sortHere_42 rfl ?_
        refine JW.ldc2 (x := 220309) dX3_sortHere_43 q1748 rfl ?_
        refine JW.mcall (As := [vL 220309]) dX3_sortHere_46 vX3_is rfl q1704 (ctX3_is b s 220309) (Nat.le_of_ble_eq_true rfl) rfl (Nat.le_of_ble_eq_true rfl) ?_
        rintro _ _ ⟨rfl, eq_7⟩
        refine JW.steq (s2 := s) eq_7 ?_
        refine JW.if_eq (tgt := 56) dX3_sortHere_49 rfl (fun c_8 => ?_) (fun c_8 => ?_)
        · have K := K.1 c_8
          refine JW.aload_n dX3_sortHere_56 rfl ?_
          refine JW.ldc2 (x := 40187) dX3_sortHere_57 q1749 rfl ?_
          refine JW.mcall (As := [vL 40187]) dX3_sortHere_60 vX3_is rfl q1704 (ctX3_is b s 40187) (Nat.le_of_ble_eq_true rfl) rfl (Nat.le_of_ble_eq_true rfl) ?_
          rintro _ _ ⟨rfl, eq_9⟩
          refine JW.steq (s2 := s) eq_9 ?_
          refine JW.if_eq (tgt := 70) dX3_sortHere_63 rfl (fun c_10 => ?_) (fun c_10 => ?_)
          · have K := K.1 c_10
            refine JW.aload_n dX3_sortHere_70 rfl ?_
            refine JW.ldc2 (x := 240373) dX3_sortHere_71 q1750 rfl ?_
            refine JW.mcall (As := [vL 240373]) dX3_sortHere_74 vX3_is rfl q1704 (ctX3_is b s 240373) (Nat.le_of_ble_eq_true rfl) rfl (Nat.le_of_ble_eq_true rfl) ?_
            rintro _ _ ⟨rfl, eq_11⟩
            refine JW.steq (s2 := s) eq_11 ?_
            refine JW.if_eq (tgt := 84) dX3_sortHere_77 rfl (fun c_12 => ?_) (fun c_12 => ?_)
            · have K := K.1 c_12
              refine JW.aload_n dX3_sortHere_84 rfl ?_
              refine JW.ldc2 (x := 841) dX3_sortHere_85 q1751 rfl ?_
              refine JW.mcall (As := [vL 841]) dX3_sortHere_88 vX3_is rfl q1704 (ctX3_is b s 841) (Nat.le_of_ble_eq_true rfl) rfl (Nat.le_of_ble_eq_true rfl) ?_
              rintro _ _ ⟨rfl, eq_13⟩
              refine JW.steq (s2 := s) eq_13 ?_
              refine JW.if_eq (tgt := 99) dX3_sortHere_91 rfl (fun c_14 => ?_) (fun c_14 => ?_)
              · have K := K.1 c_14
                refine JW.aload_n dX3_sortHere_99 rfl ?_
                refine JW.ldc2 (x := 282078293) dX3_sortHere_100 q1752 rfl ?_
                refine JW.mcall (As := [vL 282078293]) dX3_sortHere_103 vX3_is rfl q1704 (ctX3_is b s 282078293) (Nat.le_of_ble_eq_true rfl) rfl (Nat.le_of_ble_eq_true rfl) ?_
                rintro _ _ ⟨rfl, eq_15⟩
                refine JW.steq (s2 := s) eq_15 ?_
                refine JW.if_eq (tgt := 114) dX3_sortHere_106 rfl (fun c_16 => ?_) (fun c_16 => ?_)
                · have K := K.1 c_16
                  refine JW.aload_n dX3_sortHere_114 rfl ?_
                  refine JW.ldc2 (x := 74417) dX3_sortHere_115 q1753 rfl ?_
                  refine JW.mcall (As := [vL 74417]) dX3_sortHere_118 vX3_is rfl q1704 (ctX3_is b s 74417) (Nat.le_of_ble_eq_true rfl) rfl (Nat.le_of_ble_eq_true rfl) ?_
                  rintro _ _ ⟨rfl, eq_17⟩
                  refine JW.steq (s2 := s) eq_17 ?_
                  refine JW.if_eq (tgt := 129) dX3_sortHere_121 rfl (fun c_18 => ?_) (fun c_18 => ?_)
                  · have K := K.1 c_18
                    refine JW.aload_n dX3_sortHere_129 rfl ?_
                    refine JW.ldc2 (x := 14431) dX3_sortHere_130 q1754 rfl ?_
                    refine JW.mcall (As := [vL 14431]) dX3_sortHere_133 vX3_is rfl q1704 (ctX3_is b s 14431) (Nat.le_of_ble_eq_true rfl) rfl (Nat.le_of_ble_eq_true rfl) ?_
                    rintro _ _ ⟨rfl, eq_19⟩
                    refine JW.steq (s2 := s) eq_19 ?_
                    refine JW.if_eq (tgt := 144) dX3_sortHere_136 rfl (fun c_20 => ?_) (fun c_20 => ?_)
                    · have K := K.1 c_20
                      refine JW.aload_n dX3_sortHere_144 rfl ?_
                      refine JW.ldc2 (x := 158523) dX3_sortHere_145 q1755 rfl ?_
                      refine JW.mcall (As := [vL 158523]) dX3_sortHere_148 vX3_is rfl q1704 (ctX3_is b s 158523) (Nat.le_of_ble_eq_true rfl) rfl (Nat.le_of_ble_eq_true rfl) ?_
                      rintro _ _ ⟨rfl, eq_21⟩
                      refine JW.steq (s2 := s) eq_21 ?_
                      refine JW.if_eq (tgt := 159) dX3_sortHere_151 rfl (fun c_22 => ?_) (fun c_22 => ?_)
                      · have K := K.1 c_22
                        refine JW.aload_n dX3_sortHere_159 rfl ?_
                        refine JW.ldc2 (x := 3379448) dX3_sortHere_160 q1756 rfl ?_
                        refine JW.mcall (As := [vL 3379448]) dX3_sortHere_163 vX3_is rfl q1704 (ctX3_is b s 3379448) (Nat.le_of_ble_eq_true rfl) rfl (Nat.le_of_ble_eq_true rfl) ?_
                        rintro _ _ ⟨rfl, eq_23⟩
                        refine JW.steq (s2 := s) eq_23 ?_
                        refine JW.if_eq (tgt := 174) dX3_sortHere_166 rfl (fun c_24 => ?_) (fun c_24 => ?_)
                        · have K := K.1 c_24
                          refine JW.aload_n dX3_sortHere_174 rfl ?_
                          refine JW.ldc2 (x := 10815598) dX3_sortHere_175 q1757 rfl ?_
                          refine JW.mcall (As := [vL 10815598]) dX3_sortHere_178 vX3_is rfl q1704 (ctX3_is b s 10815598) (Nat.le_of_ble_eq_true rfl) rfl (Nat.le_of_ble_eq_true rfl) ?_
                          rintro _ _ ⟨rfl, eq_25⟩
                          refine JW.steq (s2 := s) eq_25 ?_
                          refine JW.if_eq (tgt := 189) dX3_sortHere_181 rfl (fun c_26 => ?_) (fun c_26 => ?_)
                          · have K := K.1 c_26
                            refine JW.aload_n dX3_sortHere_189 rfl ?_
                            refine JW.ldc2 (x := 324262) dX3_sortHere_190 q1758 rfl ?_
                            refine JW.mcall (As := [vL 324262]) dX3_sortHere_193 vX3_is rfl q1704 (ctX3_is b s 324262) (Nat.le_of_ble_eq_true rfl) rfl (Nat.le_of_ble_eq_true rfl) ?_
                            rintro _ _ ⟨rfl, eq_27⟩
                            refine JW.steq (s2 := s) eq_27 ?_
                            refine JW.if_eq (tgt := 204) dX3_sortHere_196 rfl (fun c_28 => ?_) (fun c_28 => ?_)
                            · have K := K.1 c_28
                              refine JW.aload_n dX3_sortHere_204 rfl ?_
                              refine JW.ldc2 (x := 11522) dX3_sortHere_205 q1759 rfl ?_
                              refine JW.mcall (As := [vL 11522]) dX3_sortHere_208 vX3_is rfl q1704 (ctX3_is b s 11522) (Nat.le_of_ble_eq_true rfl) rfl (Nat.le_of_ble_eq_true rfl) ?_
                              rintro _ _ ⟨rfl, eq_29⟩
                              refine JW.steq (s2 := s) eq_29 ?_
                              refine JW.if_eq (tgt := 219) dX3_sortHere_211 rfl (fun c_30 => ?_) (fun c_30 => ?_)
                              · have K := K.1 c_30
                                refine JW.iconst dX3_sortHere_219 rfl ?_
                                exact JW.ireturn dX3_sortHere_220 rfl rfl ⟨_, rfl, K⟩
                              · have K := K.2 c_30
                                refine JW.bipush dX3_sortHere_214 rfl ?_
                                refine JW.goto (tgt := 220) dX3_sortHere_216 rfl ?_
                                exact JW.ireturn dX3_sortHere_220 rfl rfl ⟨_, rfl, K⟩
                            · have K := K.2 c_28
                              refine JW.bipush dX3_sortHere_199 rfl ?_
                              refine JW.goto (tgt := 220) dX3_sortHere_201 rfl ?_
                              exact JW.ireturn dX3_sortHere_220 rfl rfl ⟨_, rfl, K⟩
                          · have K := K.2 c_26
                            refine JW.bipush dX3_sortHere_184 rfl ?_
                            refine JW.goto (tgt := 220) dX3_sortHere_186 rfl ?_
                            exact JW.ireturn dX3_sortHere_220 rfl rfl ⟨_, rfl, K⟩
                        · have K := K.2 c_24
                          refine JW.bipush dX3_sortHere_169 rfl ?_
                          refine JW.goto (tgt := 220) dX3_sortHere_171 rfl ?_
                          exact JW.ireturn dX3_sortHere_220 rfl rfl ⟨_, rfl, K⟩
                      · have K := K.2 c_22
                        refine JW.bipush dX3_sortHere_154 rfl ?_
                        refine JW.goto (tgt := 220) dX3_sortHere_156 rfl ?_
                        exact JW.ireturn dX3_sortHere_220 rfl rfl ⟨_, rfl, K⟩
                    · have K := K.2 c_20
                      refine JW.bipush dX3_sortHere_139 rfl ?_
                      refine JW.goto (tgt := 220) dX3_sortHere_141 rfl ?_
                      exact JW.ireturn dX3_sortHere_220 rfl rfl ⟨_, rfl, K⟩
                  · have K := K.2 c_18
                    refine JW.bipush dX3_sortHere_124 rfl ?_
                    refine JW.goto (tgt := 220) dX3_sortHere_126 rfl ?_
                    exact JW.ireturn dX3_sortHere_220 rfl rfl ⟨_, rfl, K⟩
                · have K := K.2 c_16
                  refine JW.bipush dX3_sortHere_109 rfl ?_
                  refine JW.goto (tgt := 220) dX3_sortHere_111 rfl ?_
                  exact JW.ireturn dX3_sortHere_220 rfl rfl ⟨_, rfl, K⟩
              · have K := K.2 c_14
                refine JW.bipush dX3_sortHere_94 rfl ?_
                refine JW.goto (tgt := 220) dX3_sortHere_96 rfl ?_
                exact JW.ireturn dX3_sortHere_220 rfl rfl ⟨_, rfl, K⟩
            · have K := K.2 c_12
              refine JW.iconst dX3_sortHere_80 rfl ?_
              refine JW.goto (tgt := 220) dX3_sortHere_81 rfl ?_
              exact JW.ireturn dX3_sortHere_220 rfl rfl ⟨_, rfl, K⟩
          · have K := K.2 c_10
            refine JW.iconst dX3_sortHere_66 rfl ?_
            refine JW.goto (tgt := 220) dX3_sortHere_67 rfl ?_
            exact JW.ireturn dX3_sortHere_220 rfl rfl ⟨_, rfl, K⟩
        · have K := K.2 c_8
          refine JW.iconst dX3_sortHere_52 rfl ?_
          refine JW.goto (tgt := 220) dX3_sortHere_53 rfl ?_
          exact JW.ireturn dX3_sortHere_220 rfl rfl ⟨_, rfl, K⟩
      · have K := K.2 c_6
        refine JW.iconst dX3_sortHere_38 rfl ?_
        refine JW.goto (tgt := 220) dX3_sortHere_39 rfl ?_
        exact JW.ireturn dX3_sortHere_220 rfl rfl ⟨_, rfl, K⟩
    · have K := K.2 c_4
      refine JW.iconst dX3_sortHere_24 rfl ?_
      refine JW.goto (tgt := 220) dX3_sortHere_25 rfl ?_
      exact JW.ireturn dX3_sortHere_220 rfl rfl ⟨_, rfl, K⟩
  · have K := K.2 c_2
    refine JW.iconst dX3_sortHere_10 rfl ?_
    refine JW.goto (tgt := 220) dX3_sortHere_11 rfl ?_
    exact JW.ireturn dX3_sortHere_220 rfl rfl ⟨_, rfl, K⟩
def QX3_sortHere (s : MS) : Option AV → MS → Prop := fun v s' => v = some (vI (if (s.1 12) = 0 ∧ (s.1 8) = 1 then sortOf (s.1 11) else -1)) ∧ s' = s
theorem vX3_sortHere_1 (s : MS) (c_2 : (bI ((s.1 12) = 0 ∧ (s.1 8) = 1 ∧ (s.1 11) = (90302 : Int))) = 0) (c_4 : (bI ((s.1 12) = 0 ∧ (s.1 8) = 1 ∧ (s.1 11) = (583 : Int))) = 0) (c_6 : (bI ((s.1 12) = 0 ∧ (s.1 8) = 1 ∧ (s.1 11) = (409469 : Int))) = 0) (c_8 : (bI ((s.1 12) = 0 ∧ (s.1 8) = 1 ∧ (s.1 11) = (220309 : Int))) = 0) (c_10 : (bI ((s.1 12) = 0 ∧ (s.1 8) = 1 ∧ (s.1 11) = (40187 : Int))) = 0) (c_12 : (bI ((s.1 12) = 0 ∧ (s.1 8) = 1 ∧ (s.1 11) = (240373 : Int))) = 0) (c_14 : (bI ((s.1 12) = 0 ∧ (s.1 8) = 1 ∧ (s.1 11) = (841 : Int))) = 0) (c_16 : (bI ((s.1 12) = 0 ∧ (s.1 8) = 1 ∧ (s.1 11) = (282078293 : Int))) = 0) (c_18 : (bI ((s.1 12) = 0 ∧ (s.1 8) = 1 ∧ (s.1 11) = (74417 : Int))) = 0) (c_20 : (bI ((s.1 12) = 0 ∧ (s.1 8) = 1 ∧ (s.1 11) = (14431 : Int))) = 0) (c_22 : (bI ((s.1 12) = 0 ∧ (s.1 8) = 1 ∧ (s.1 11) = (158523 : Int))) = 0) (c_24 : (bI ((s.1 12) = 0 ∧ (s.1 8) = 1 ∧ (s.1 11) = (3379448 : Int))) = 0) (c_26 : (bI ((s.1 12) = 0 ∧ (s.1 8) = 1 ∧ (s.1 11) = (10815598 : Int))) = 0) (c_28 : (bI ((s.1 12) = 0 ∧ (s.1 8) = 1 ∧ (s.1 11) = (324262 : Int))) = 0) (c_30 : (bI ((s.1 12) = 0 ∧ (s.1 8) = 1 ∧ (s.1 11) = (11522 : Int))) = 0) : (-1) = (if (s.1 12) = 0 ∧ (s.1 8) = 1 then sortOf (s.1 11) else -1) := by
  (try simp only [bI_0, bI_n, Classical.not_not] at *)
  (try simp only [bI_0, bI_n, Classical.not_not] at *)
  by_cases hg : s.1 12 = 0 ∧ s.1 8 = 1
  · have hw : ∀ w : Int, (¬ (s.1 12 = 0 ∧ s.1 8 = 1 ∧ s.1 11 = w)) → s.1 11 ≠ w := fun w h e => h ⟨hg.1, hg.2, e⟩
    rw [if_pos hg]
    unfold sortOf
    repeat first
      | rw [if_pos (by first | omega)]
      | rw [if_neg (by first | (apply hw; assumption) | omega)]
  · rw [if_neg hg]
    first | done | rfl | (exfalso; omega)
theorem vX3_sortHere_2 (s : MS) (c_2 : (bI ((s.1 12) = 0 ∧ (s.1 8) = 1 ∧ (s.1 11) = (90302 : Int))) = 0) (c_4 : (bI ((s.1 12) = 0 ∧ (s.1 8) = 1 ∧ (s.1 11) = (583 : Int))) = 0) (c_6 : (bI ((s.1 12) = 0 ∧ (s.1 8) = 1 ∧ (s.1 11) = (409469 : Int))) = 0) (c_8 : (bI ((s.1 12) = 0 ∧ (s.1 8) = 1 ∧ (s.1 11) = (220309 : Int))) = 0) (c_10 : (bI ((s.1 12) = 0 ∧ (s.1 8) = 1 ∧ (s.1 11) = (40187 : Int))) = 0) (c_12 : (bI ((s.1 12) = 0 ∧ (s.1 8) = 1 ∧ (s.1 11) = (240373 : Int))) = 0) (c_14 : (bI ((s.1 12) = 0 ∧ (s.1 8) = 1 ∧ (s.1 11) = (841 : Int))) = 0) (c_16 : (bI ((s.1 12) = 0 ∧ (s.1 8) = 1 ∧ (s.1 11) = (282078293 : Int))) = 0) (c_18 : (bI ((s.1 12) = 0 ∧ (s.1 8) = 1 ∧ (s.1 11) = (74417 : Int))) = 0) (c_20 : (bI ((s.1 12) = 0 ∧ (s.1 8) = 1 ∧ (s.1 11) = (14431 : Int))) = 0) (c_22 : (bI ((s.1 12) = 0 ∧ (s.1 8) = 1 ∧ (s.1 11) = (158523 : Int))) = 0) (c_24 : (bI ((s.1 12) = 0 ∧ (s.1 8) = 1 ∧ (s.1 11) = (3379448 : Int))) = 0) (c_26 : (bI ((s.1 12) = 0 ∧ (s.1 8) = 1 ∧ (s.1 11) = (10815598 : Int))) = 0) (c_28 : (bI ((s.1 12) = 0 ∧ (s.1 8) = 1 ∧ (s.1 11) = (324262 : Int))) = 0) (c_30 : ¬ (bI ((s.1 12) = 0 ∧ (s.1 8) = 1 ∧ (s.1 11) = (11522 : Int))) = 0) : 14 = (if (s.1 12) = 0 ∧ (s.1 8) = 1 then sortOf (s.1 11) else -1) := by
  (try simp only [bI_0, bI_n, Classical.not_not] at *)
  (try simp only [bI_0, bI_n, Classical.not_not] at *)
  by_cases hg : s.1 12 = 0 ∧ s.1 8 = 1
  · have hw : ∀ w : Int, (¬ (s.1 12 = 0 ∧ s.1 8 = 1 ∧ s.1 11 = w)) → s.1 11 ≠ w := fun w h e => h ⟨hg.1, hg.2, e⟩
    rw [if_pos hg]
    unfold sortOf
    repeat first
      | rw [if_pos (by first | omega)]
      | rw [if_neg (by first | (apply hw; assumption) | omega)]
  · rw [if_neg hg]
    first | done | rfl | (exfalso; omega)
theorem vX3_sortHere_3 (s : MS) (c_2 : (bI ((s.1 12) = 0 ∧ (s.1 8) = 1 ∧ (s.1 11) = (90302 : Int))) = 0) (c_4 : (bI ((s.1 12) = 0 ∧ (s.1 8) = 1 ∧ (s.1 11) = (583 : Int))) = 0) (c_6 : (bI ((s.1 12) = 0 ∧ (s.1 8) = 1 ∧ (s.1 11) = (409469 : Int))) = 0) (c_8 : (bI ((s.1 12) = 0 ∧ (s.1 8) = 1 ∧ (s.1 11) = (220309 : Int))) = 0) (c_10 : (bI ((s.1 12) = 0 ∧ (s.1 8) = 1 ∧ (s.1 11) = (40187 : Int))) = 0) (c_12 : (bI ((s.1 12) = 0 ∧ (s.1 8) = 1 ∧ (s.1 11) = (240373 : Int))) = 0) (c_14 : (bI ((s.1 12) = 0 ∧ (s.1 8) = 1 ∧ (s.1 11) = (841 : Int))) = 0) (c_16 : (bI ((s.1 12) = 0 ∧ (s.1 8) = 1 ∧ (s.1 11) = (282078293 : Int))) = 0) (c_18 : (bI ((s.1 12) = 0 ∧ (s.1 8) = 1 ∧ (s.1 11) = (74417 : Int))) = 0) (c_20 : (bI ((s.1 12) = 0 ∧ (s.1 8) = 1 ∧ (s.1 11) = (14431 : Int))) = 0) (c_22 : (bI ((s.1 12) = 0 ∧ (s.1 8) = 1 ∧ (s.1 11) = (158523 : Int))) = 0) (c_24 : (bI ((s.1 12) = 0 ∧ (s.1 8) = 1 ∧ (s.1 11) = (3379448 : Int))) = 0) (c_26 : (bI ((s.1 12) = 0 ∧ (s.1 8) = 1 ∧ (s.1 11) = (10815598 : Int))) = 0) (c_28 : ¬ (bI ((s.1 12) = 0 ∧ (s.1 8) = 1 ∧ (s.1 11) = (324262 : Int))) = 0) : 13 = (if (s.1 12) = 0 ∧ (s.1 8) = 1 then sortOf (s.1 11) else -1) := by
  (try simp only [bI_0, bI_n, Classical.not_not] at *)
  (try simp only [bI_0, bI_n, Classical.not_not] at *)
  by_cases hg : s.1 12 = 0 ∧ s.1 8 = 1
  · have hw : ∀ w : Int, (¬ (s.1 12 = 0 ∧ s.1 8 = 1 ∧ s.1 11 = w)) → s.1 11 ≠ w := fun w h e => h ⟨hg.1, hg.2, e⟩
    rw [if_pos hg]
    unfold sortOf
    repeat first
      | rw [if_pos (by first | omega)]
      | rw [if_neg (by first | (apply hw; assumption) | omega)]
  · rw [if_neg hg]
    first | done | rfl | (exfalso; omega)
theorem vX3_sortHere_4 (s : MS) (c_2 : (bI ((s.1 12) = 0 ∧ (s.1 8) = 1 ∧ (s.1 11) = (90302 : Int))) = 0) (c_4 : (bI ((s.1 12) = 0 ∧ (s.1 8) = 1 ∧ (s.1 11) = (583 : Int))) = 0) (c_6 : (bI ((s.1 12) = 0 ∧ (s.1 8) = 1 ∧ (s.1 11) = (409469 : Int))) = 0) (c_8 : (bI ((s.1 12) = 0 ∧ (s.1 8) = 1 ∧ (s.1 11) = (220309 : Int))) = 0) (c_10 : (bI ((s.1 12) = 0 ∧ (s.1 8) = 1 ∧ (s.1 11) = (40187 : Int))) = 0) (c_12 : (bI ((s.1 12) = 0 ∧ (s.1 8) = 1 ∧ (s.1 11) = (240373 : Int))) = 0) (c_14 : (bI ((s.1 12) = 0 ∧ (s.1 8) = 1 ∧ (s.1 11) = (841 : Int))) = 0) (c_16 : (bI ((s.1 12) = 0 ∧ (s.1 8) = 1 ∧ (s.1 11) = (282078293 : Int))) = 0) (c_18 : (bI ((s.1 12) = 0 ∧ (s.1 8) = 1 ∧ (s.1 11) = (74417 : Int))) = 0) (c_20 : (bI ((s.1 12) = 0 ∧ (s.1 8) = 1 ∧ (s.1 11) = (14431 : Int))) = 0) (c_22 : (bI ((s.1 12) = 0 ∧ (s.1 8) = 1 ∧ (s.1 11) = (158523 : Int))) = 0) (c_24 : (bI ((s.1 12) = 0 ∧ (s.1 8) = 1 ∧ (s.1 11) = (3379448 : Int))) = 0) (c_26 : ¬ (bI ((s.1 12) = 0 ∧ (s.1 8) = 1 ∧ (s.1 11) = (10815598 : Int))) = 0) : 12 = (if (s.1 12) = 0 ∧ (s.1 8) = 1 then sortOf (s.1 11) else -1) := by
  (try simp only [bI_0, bI_n, Classical.not_not] at *)
  (try simp only [bI_0, bI_n, Classical.not_not] at *)
  by_cases hg : s.1 12 = 0 ∧ s.1 8 = 1
  · have hw : ∀ w : Int, (¬ (s.1 12 = 0 ∧ s.1 8 = 1 ∧ s.1 11 = w)) → s.1 11 ≠ w := fun w h e => h ⟨hg.1, hg.2, e⟩
    rw [if_pos hg]
    unfold sortOf
    repeat first
      | rw [if_pos (by first | omega)]
      | rw [if_neg (by first | (apply hw; assumption) | omega)]
  · rw [if_neg hg]
    first | done | rfl | (exfalso; omega)
theorem vX3_sortHere_5 (s : MS) (c_2 : (bI ((s.1 12) = 0 ∧ (s.1 8) = 1 ∧ (s.1 11) = (90302 : Int))) = 0) (c_4 : (bI ((s.1 12) = 0 ∧ (s.1 8) = 1 ∧ (s.1 11) = (583 : Int))) = 0) (c_6 : (bI ((s.1 12) = 0 ∧ (s.1 8) = 1 ∧ (s.1 11) = (409469 : Int))) = 0) (c_8 : (bI ((s.1 12) = 0 ∧ (s.1 8) = 1 ∧ (s.1 11) = (220309 : Int))) = 0) (c_10 : (bI ((s.1 12) = 0 ∧ (s.1 8) = 1 ∧ (s.1 11) = (40187 : Int))) = 0) (c_12 : (bI ((s.1 12) = 0 ∧ (s.1 8) = 1 ∧ (s.1 11) = (240373 : Int))) = 0) (c_14 : (bI ((s.1 12) = 0 ∧ (s.1 8) = 1 ∧ (s.1 11) = (841 : Int))) = 0) (c_16 : (bI ((s.1 12) = 0 ∧ (s.1 8) = 1 ∧ (s.1 11) = (282078293 : Int))) = 0) (c_18 : (bI ((s.1 12) = 0 ∧ (s.1 8) = 1 ∧ (s.1 11) = (74417 : Int))) = 0) (c_20 : (bI ((s.1 12) = 0 ∧ (s.1 8) = 1 ∧ (s.1 11) = (14431 : Int))) = 0) (c_22 : (bI ((s.1 12) = 0 ∧ (s.1 8) = 1 ∧ (s.1 11) = (158523 : Int))) = 0) (c_24 : ¬ (bI ((s.1 12) = 0 ∧ (s.1 8) = 1 ∧ (s.1 11) = (3379448 : Int))) = 0) : 11 = (if (s.1 12) = 0 ∧ (s.1 8) = 1 then sortOf (s.1 11) else -1) := by
  (try simp only [bI_0, bI_n, Classical.not_not] at *)
  (try simp only [bI_0, bI_n, Classical.not_not] at *)
  by_cases hg : s.1 12 = 0 ∧ s.1 8 = 1
  · have hw : ∀ w : Int, (¬ (s.1 12 = 0 ∧ s.1 8 = 1 ∧ s.1 11 = w)) → s.1 11 ≠ w := fun w h e => h ⟨hg.1, hg.2, e⟩
    rw [if_pos hg]
    unfold sortOf
    repeat first
      | rw [if_pos (by first | omega)]
      | rw [if_neg (by first | (apply hw; assumption) | omega)]
  · rw [if_neg hg]
    first | done | rfl | (exfalso; omega)
theorem vX3_sortHere_6 (s : MS) (c_2 : (bI ((s.1 12) = 0 ∧ (s.1 8) = 1 ∧ (s.1 11) = (90302 : Int))) = 0) (c_4 : (bI ((s.1 12) = 0 ∧ (s.1 8) = 1 ∧ (s.1 11) = (583 : Int))) = 0) (c_6 : (bI ((s.1 12) = 0 ∧ (s.1 8) = 1 ∧ (s.1 11) = (409469 : Int))) = 0) (c_8 : (bI ((s.1 12) = 0 ∧ (s.1 8) = 1 ∧ (s.1 11) = (220309 : Int))) = 0) (c_10 : (bI ((s.1 12) = 0 ∧ (s.1 8) = 1 ∧ (s.1 11) = (40187 : Int))) = 0) (c_12 : (bI ((s.1 12) = 0 ∧ (s.1 8) = 1 ∧ (s.1 11) = (240373 : Int))) = 0) (c_14 : (bI ((s.1 12) = 0 ∧ (s.1 8) = 1 ∧ (s.1 11) = (841 : Int))) = 0) (c_16 : (bI ((s.1 12) = 0 ∧ (s.1 8) = 1 ∧ (s.1 11) = (282078293 : Int))) = 0) (c_18 : (bI ((s.1 12) = 0 ∧ (s.1 8) = 1 ∧ (s.1 11) = (74417 : Int))) = 0) (c_20 : (bI ((s.1 12) = 0 ∧ (s.1 8) = 1 ∧ (s.1 11) = (14431 : Int))) = 0) (c_22 : ¬ (bI ((s.1 12) = 0 ∧ (s.1 8) = 1 ∧ (s.1 11) = (158523 : Int))) = 0) : 10 = (if (s.1 12) = 0 ∧ (s.1 8) = 1 then sortOf (s.1 11) else -1) := by
  (try simp only [bI_0, bI_n, Classical.not_not] at *)
  (try simp only [bI_0, bI_n, Classical.not_not] at *)
  by_cases hg : s.1 12 = 0 ∧ s.1 8 = 1
  · have hw : ∀ w : Int, (¬ (s.1 12 = 0 ∧ s.1 8 = 1 ∧ s.1 11 = w)) → s.1 11 ≠ w := fun w h e => h ⟨hg.1, hg.2, e⟩
    rw [if_pos hg]
    unfold sortOf
    repeat first
      | rw [if_pos (by first | omega)]
      | rw [if_neg (by first | (apply hw; assumption) | omega)]
  · rw [if_neg hg]
    first | done | rfl | (exfalso; omega)
theorem vX3_sortHere_7 (s : MS) (c_2 : (bI ((s.1 12) = 0 ∧ (s.1 8) = 1 ∧ (s.1 11) = (90302 : Int))) = 0) (c_4 : (bI ((s.1 12) = 0 ∧ (s.1 8) = 1 ∧ (s.1 11) = (583 : Int))) = 0) (c_6 : (bI ((s.1 12) = 0 ∧ (s.1 8) = 1 ∧ (s.1 11) = (409469 : Int))) = 0) (c_8 : (bI ((s.1 12) = 0 ∧ (s.1 8) = 1 ∧ (s.1 11) = (220309 : Int))) = 0) (c_10 : (bI ((s.1 12) = 0 ∧ (s.1 8) = 1 ∧ (s.1 11) = (40187 : Int))) = 0) (c_12 : (bI ((s.1 12) = 0 ∧ (s.1 8) = 1 ∧ (s.1 11) = (240373 : Int))) = 0) (c_14 : (bI ((s.1 12) = 0 ∧ (s.1 8) = 1 ∧ (s.1 11) = (841 : Int))) = 0) (c_16 : (bI ((s.1 12) = 0 ∧ (s.1 8) = 1 ∧ (s.1 11) = (282078293 : Int))) = 0) (c_18 : (bI ((s.1 12) = 0 ∧ (s.1 8) = 1 ∧ (s.1 11) = (74417 : Int))) = 0) (c_20 : ¬ (bI ((s.1 12) = 0 ∧ (s.1 8) = 1 ∧ (s.1 11) = (14431 : Int))) = 0) : 9 = (if (s.1 12) = 0 ∧ (s.1 8) = 1 then sortOf (s.1 11) else -1) := by
  (try simp only [bI_0, bI_n, Classical.not_not] at *)
  (try simp only [bI_0, bI_n, Classical.not_not] at *)
  by_cases hg : s.1 12 = 0 ∧ s.1 8 = 1
  · have hw : ∀ w : Int, (¬ (s.1 12 = 0 ∧ s.1 8 = 1 ∧ s.1 11 = w)) → s.1 11 ≠ w := fun w h e => h ⟨hg.1, hg.2, e⟩
    rw [if_pos hg]
    unfold sortOf
    repeat first
      | rw [if_pos (by first | omega)]
      | rw [if_neg (by first | (apply hw; assumption) | omega)]
  · rw [if_neg hg]
    first | done | rfl | (exfalso; omega)
theorem vX3_sortHere_8 (s : MS) (c_2 : (bI ((s.1 12) = 0 ∧ (s.1 8) = 1 ∧ (s.1 11) = (90302 : Int))) = 0) (c_4 : (bI ((s.1 12) = 0 ∧ (s.1 8) = 1 ∧ (s.1 11) = (583 : Int))) = 0) (c_6 : (bI ((s.1 12) = 0 ∧ (s.1 8) = 1 ∧ (s.1 11) = (409469 : Int))) = 0) (c_8 : (bI ((s.1 12) = 0 ∧ (s.1 8) = 1 ∧ (s.1 11) = (220309 : Int))) = 0) (c_10 : (bI ((s.1 12) = 0 ∧ (s.1 8) = 1 ∧ (s.1 11) = (40187 : Int))) = 0) (c_12 : (bI ((s.1 12) = 0 ∧ (s.1 8) = 1 ∧ (s.1 11) = (240373 : Int))) = 0) (c_14 : (bI ((s.1 12) = 0 ∧ (s.1 8) = 1 ∧ (s.1 11) = (841 : Int))) = 0) (c_16 : (bI ((s.1 12) = 0 ∧ (s.1 8) = 1 ∧ (s.1 11) = (282078293 : Int))) = 0) (c_18 : ¬ (bI ((s.1 12) = 0 ∧ (s.1 8) = 1 ∧ (s.1 11) = (74417 : Int))) = 0) : 8 = (if (s.1 12) = 0 ∧ (s.1 8) = 1 then sortOf (s.1 11) else -1) := by
  (try simp only [bI_0, bI_n, Classical.not_not] at *)
  (try simp only [bI_0, bI_n, Classical.not_not] at *)
  by_cases hg : s.1 12 = 0 ∧ s.1 8 = 1
  · have hw : ∀ w : Int, (¬ (s.1 12 = 0 ∧ s.1 8 = 1 ∧ s.1 11 = w)) → s.1 11 ≠ w := fun w h e => h ⟨hg.1, hg.2, e⟩
    rw [if_pos hg]
    unfold sortOf
    repeat first
      | rw [if_pos (by first | omega)]
      | rw [if_neg (by first | (apply hw; assumption) | omega)]
  · rw [if_neg hg]
    first | done | rfl | (exfalso; omega)
theorem vX3_sortHere_9 (s : MS) (c_2 : (bI ((s.1 12) = 0 ∧ (s.1 8) = 1 ∧ (s.1 11) = (90302 : Int))) = 0) (c_4 : (bI ((s.1 12) = 0 ∧ (s.1 8) = 1 ∧ (s.1 11) = (583 : Int))) = 0) (c_6 : (bI ((s.1 12) = 0 ∧ (s.1 8) = 1 ∧ (s.1 11) = (409469 : Int))) = 0) (c_8 : (bI ((s.1 12) = 0 ∧ (s.1 8) = 1 ∧ (s.1 11) = (220309 : Int))) = 0) (c_10 : (bI ((s.1 12) = 0 ∧ (s.1 8) = 1 ∧ (s.1 11) = (40187 : Int))) = 0) (c_12 : (bI ((s.1 12) = 0 ∧ (s.1 8) = 1 ∧ (s.1 11) = (240373 : Int))) = 0) (c_14 : (bI ((s.1 12) = 0 ∧ (s.1 8) = 1 ∧ (s.1 11) = (841 : Int))) = 0) (c_16 : ¬ (bI ((s.1 12) = 0 ∧ (s.1 8) = 1 ∧ (s.1 11) = (282078293 : Int))) = 0) : 7 = (if (s.1 12) = 0 ∧ (s.1 8) = 1 then sortOf (s.1 11) else -1) := by
  (try simp only [bI_0, bI_n, Classical.not_not] at *)
  (try simp only [bI_0, bI_n, Classical.not_not] at *)
  by_cases hg : s.1 12 = 0 ∧ s.1 8 = 1
  · have hw : ∀ w : Int, (¬ (s.1 12 = 0 ∧ s.1 8 = 1 ∧ s.1 11 = w)) → s.1 11 ≠ w := fun w h e => h ⟨hg.1, hg.2, e⟩
    rw [if_pos hg]
    unfold sortOf
    repeat first
      | rw [if_pos (by first | omega)]
      | rw [if_neg (by first | (apply hw; assumption) | omega)]
  · rw [if_neg hg]
    first | done | rfl | (exfalso; omega)
theorem vX3_sortHere_10 (s : MS) (c_2 : (bI ((s.1 12) = 0 ∧ (s.1 8) = 1 ∧ (s.1 11) = (90302 : Int))) = 0) (c_4 : (bI ((s.1 12) = 0 ∧ (s.1 8) = 1 ∧ (s.1 11) = (583 : Int))) = 0) (c_6 : (bI ((s.1 12) = 0 ∧ (s.1 8) = 1 ∧ (s.1 11) = (409469 : Int))) = 0) (c_8 : (bI ((s.1 12) = 0 ∧ (s.1 8) = 1 ∧ (s.1 11) = (220309 : Int))) = 0) (c_10 : (bI ((s.1 12) = 0 ∧ (s.1 8) = 1 ∧ (s.1 11) = (40187 : Int))) = 0) (c_12 : (bI ((s.1 12) = 0 ∧ (s.1 8) = 1 ∧ (s.1 11) = (240373 : Int))) = 0) (c_14 : ¬ (bI ((s.1 12) = 0 ∧ (s.1 8) = 1 ∧ (s.1 11) = (841 : Int))) = 0) : 6 = (if (s.1 12) = 0 ∧ (s.1 8) = 1 then sortOf (s.1 11) else -1) := by
  (try simp only [bI_0, bI_n, Classical.not_not] at *)
  (try simp only [bI_0, bI_n, Classical.not_not] at *)
  by_cases hg : s.1 12 = 0 ∧ s.1 8 = 1
  · have hw : ∀ w : Int, (¬ (s.1 12 = 0 ∧ s.1 8 = 1 ∧ s.1 11 = w)) → s.1 11 ≠ w := fun w h e => h ⟨hg.1, hg.2, e⟩
    rw [if_pos hg]
    unfold sortOf
    repeat first
      | rw [if_pos (by first | omega)]
      | rw [if_neg (by first | (apply hw; assumption) | omega)]
  · rw [if_neg hg]
    first | done | rfl | (exfalso; omega)
theorem vX3_sortHere_11 (s : MS) (c_2 : (bI ((s.1 12) = 0 ∧ (s.1 8) = 1 ∧ (s.1 11) = (90302 : Int))) = 0) (c_4 : (bI ((s.1 12) = 0 ∧ (s.1 8) = 1 ∧ (s.1 11) = (583 : Int))) = 0) (c_6 : (bI ((s.1 12) = 0 ∧ (s.1 8) = 1 ∧ (s.1 11) = (409469 : Int))) = 0) (c_8 : (bI ((s.1 12) = 0 ∧ (s.1 8) = 1 ∧ (s.1 11) = (220309 : Int))) = 0) (c_10 : (bI ((s.1 12) = 0 ∧ (s.1 8) = 1 ∧ (s.1 11) = (40187 : Int))) = 0) (c_12 : ¬ (bI ((s.1 12) = 0 ∧ (s.1 8) = 1 ∧ (s.1 11) = (240373 : Int))) = 0) : 5 = (if (s.1 12) = 0 ∧ (s.1 8) = 1 then sortOf (s.1 11) else -1) := by
  (try simp only [bI_0, bI_n, Classical.not_not] at *)
  (try simp only [bI_0, bI_n, Classical.not_not] at *)
  by_cases hg : s.1 12 = 0 ∧ s.1 8 = 1
  · have hw : ∀ w : Int, (¬ (s.1 12 = 0 ∧ s.1 8 = 1 ∧ s.1 11 = w)) → s.1 11 ≠ w := fun w h e => h ⟨hg.1, hg.2, e⟩
    rw [if_pos hg]
    unfold sortOf
    repeat first
      | rw [if_pos (by first | omega)]
      | rw [if_neg (by first | (apply hw; assumption) | omega)]
  · rw [if_neg hg]
    first | done | rfl | (exfalso; omega)
theorem vX3_sortHere_12 (s : MS) (c_2 : (bI ((s.1 12) = 0 ∧ (s.1 8) = 1 ∧ (s.1 11) = (90302 : Int))) = 0) (c_4 : (bI ((s.1 12) = 0 ∧ (s.1 8) = 1 ∧ (s.1 11) = (583 : Int))) = 0) (c_6 : (bI ((s.1 12) = 0 ∧ (s.1 8) = 1 ∧ (s.1 11) = (409469 : Int))) = 0) (c_8 : (bI ((s.1 12) = 0 ∧ (s.1 8) = 1 ∧ (s.1 11) = (220309 : Int))) = 0) (c_10 : ¬ (bI ((s.1 12) = 0 ∧ (s.1 8) = 1 ∧ (s.1 11) = (40187 : Int))) = 0) : 4 = (if (s.1 12) = 0 ∧ (s.1 8) = 1 then sortOf (s.1 11) else -1) := by
  (try simp only [bI_0, bI_n, Classical.not_not] at *)
  (try simp only [bI_0, bI_n, Classical.not_not] at *)
  by_cases hg : s.1 12 = 0 ∧ s.1 8 = 1
  · have hw : ∀ w : Int, (¬ (s.1 12 = 0 ∧ s.1 8 = 1 ∧ s.1 11 = w)) → s.1 11 ≠ w := fun w h e => h ⟨hg.1, hg.2, e⟩
    rw [if_pos hg]
    unfold sortOf
    repeat first
      | rw [if_pos (by first | omega)]
      | rw [if_neg (by first | (apply hw; assumption) | omega)]
  · rw [if_neg hg]
    first | done | rfl | (exfalso; omega)
theorem vX3_sortHere_13 (s : MS) (c_2 : (bI ((s.1 12) = 0 ∧ (s.1 8) = 1 ∧ (s.1 11) = (90302 : Int))) = 0) (c_4 : (bI ((s.1 12) = 0 ∧ (s.1 8) = 1 ∧ (s.1 11) = (583 : Int))) = 0) (c_6 : (bI ((s.1 12) = 0 ∧ (s.1 8) = 1 ∧ (s.1 11) = (409469 : Int))) = 0) (c_8 : ¬ (bI ((s.1 12) = 0 ∧ (s.1 8) = 1 ∧ (s.1 11) = (220309 : Int))) = 0) : 3 = (if (s.1 12) = 0 ∧ (s.1 8) = 1 then sortOf (s.1 11) else -1) := by
  (try simp only [bI_0, bI_n, Classical.not_not] at *)
  (try simp only [bI_0, bI_n, Classical.not_not] at *)
  by_cases hg : s.1 12 = 0 ∧ s.1 8 = 1
  · have hw : ∀ w : Int, (¬ (s.1 12 = 0 ∧ s.1 8 = 1 ∧ s.1 11 = w)) → s.1 11 ≠ w := fun w h e => h ⟨hg.1, hg.2, e⟩
    rw [if_pos hg]
    unfold sortOf
    repeat first
      | rw [if_pos (by first | omega)]
      | rw [if_neg (by first | (apply hw; assumption) | omega)]
  · rw [if_neg hg]
    first | done | rfl | (exfalso; omega)
theorem vX3_sortHere_14 (s : MS) (c_2 : (bI ((s.1 12) = 0 ∧ (s.1 8) = 1 ∧ (s.1 11) = (90302 : Int))) = 0) (c_4 : (bI ((s.1 12) = 0 ∧ (s.1 8) = 1 ∧ (s.1 11) = (583 : Int))) = 0) (c_6 : ¬ (bI ((s.1 12) = 0 ∧ (s.1 8) = 1 ∧ (s.1 11) = (409469 : Int))) = 0) : 2 = (if (s.1 12) = 0 ∧ (s.1 8) = 1 then sortOf (s.1 11) else -1) := by
  (try simp only [bI_0, bI_n, Classical.not_not] at *)
  (try simp only [bI_0, bI_n, Classical.not_not] at *)
  by_cases hg : s.1 12 = 0 ∧ s.1 8 = 1
  · have hw : ∀ w : Int, (¬ (s.1 12 = 0 ∧ s.1 8 = 1 ∧ s.1 11 = w)) → s.1 11 ≠ w := fun w h e => h ⟨hg.1, hg.2, e⟩
    rw [if_pos hg]
    unfold sortOf
    repeat first
      | rw [if_pos (by first | omega)]
      | rw [if_neg (by first | (apply hw; assumption) | omega)]
  · rw [if_neg hg]
    first | done | rfl | (exfalso; omega)
theorem vX3_sortHere_15 (s : MS) (c_2 : (bI ((s.1 12) = 0 ∧ (s.1 8) = 1 ∧ (s.1 11) = (90302 : Int))) = 0) (c_4 : ¬ (bI ((s.1 12) = 0 ∧ (s.1 8) = 1 ∧ (s.1 11) = (583 : Int))) = 0) : 1 = (if (s.1 12) = 0 ∧ (s.1 8) = 1 then sortOf (s.1 11) else -1) := by
  (try simp only [bI_0, bI_n, Classical.not_not] at *)
  (try simp only [bI_0, bI_n, Classical.not_not] at *)
  by_cases hg : s.1 12 = 0 ∧ s.1 8 = 1
  · have hw : ∀ w : Int, (¬ (s.1 12 = 0 ∧ s.1 8 = 1 ∧ s.1 11 = w)) → s.1 11 ≠ w := fun w h e => h ⟨hg.1, hg.2, e⟩
    rw [if_pos hg]
    unfold sortOf
    repeat first
      | rw [if_pos (by first | omega)]
      | rw [if_neg (by first | (apply hw; assumption) | omega)]
  · rw [if_neg hg]
    first | done | rfl | (exfalso; omega)
theorem vX3_sortHere_16 (s : MS) (c_2 : ¬ (bI ((s.1 12) = 0 ∧ (s.1 8) = 1 ∧ (s.1 11) = (90302 : Int))) = 0) : 0 = (if (s.1 12) = 0 ∧ (s.1 8) = 1 then sortOf (s.1 11) else -1) := by
  (try simp only [bI_0, bI_n, Classical.not_not] at *)
  (try simp only [bI_0, bI_n, Classical.not_not] at *)
  by_cases hg : s.1 12 = 0 ∧ s.1 8 = 1
  · have hw : ∀ w : Int, (¬ (s.1 12 = 0 ∧ s.1 8 = 1 ∧ s.1 11 = w)) → s.1 11 ≠ w := fun w h e => h ⟨hg.1, hg.2, e⟩
    rw [if_pos hg]
    unfold sortOf
    repeat first
      | rw [if_pos (by first | omega)]
      | rw [if_neg (by first | (apply hw; assumption) | omega)]
  · rw [if_neg hg]
    first | done | rfl | (exfalso; omega)
theorem ctX3_sortHere (b : AH) (s : MS) : MC mX3_sortHere 2 b s [] (QX3_sortHere s) := by
  refine MC.of (by decide) rfl (Nat.le_of_ble_eq_true rfl) ?_
  refine bX3_sortHere_0 b s  ?_
  refine ⟨fun c_2 => ?_, fun c_2 => ?_⟩
  · refine ⟨fun c_4 => ?_, fun c_4 => ?_⟩
    · refine ⟨fun c_6 => ?_, fun c_6 => ?_⟩
      · refine ⟨fun c_8 => ?_, fun c_8 => ?_⟩
        · refine ⟨fun c_10 => ?_, fun c_10 => ?_⟩
          · refine ⟨fun c_12 => ?_, fun c_12 => ?_⟩
            · refine ⟨fun c_14 => ?_, fun c_14 => ?_⟩
              · refine ⟨fun c_16 => ?_, fun c_16 => ?_⟩
                · refine ⟨fun c_18 => ?_, fun c_18 => ?_⟩
                  · refine ⟨fun c_20 => ?_, fun c_20 => ?_⟩
                    · refine ⟨fun c_22 => ?_, fun c_22 => ?_⟩
                      · refine ⟨fun c_24 => ?_, fun c_24 => ?_⟩
                        · refine ⟨fun c_26 => ?_, fun c_26 => ?_⟩
                          · refine ⟨fun c_28 => ?_, fun c_28 => ?_⟩
                            · refine ⟨fun c_30 => ?_, fun c_30 => ?_⟩
                              · exact ⟨(rI_c (vX3_sortHere_1 s c_2 c_4 c_6 c_8 c_10 c_12 c_14 c_16 c_18 c_20 c_22 c_24 c_26 c_28 c_30)), rfl⟩
                              · exact ⟨(rI_c (vX3_sortHere_2 s c_2 c_4 c_6 c_8 c_10 c_12 c_14 c_16 c_18 c_20 c_22 c_24 c_26 c_28 c_30)), rfl⟩
                            · exact ⟨(rI_c (vX3_sortHere_3 s c_2 c_4 c_6 c_8 c_10 c_12 c_14 c_16 c_18 c_20 c_22 c_24 c_26 c_28)), rfl⟩
                          · exact ⟨(rI_c (vX3_sortHere_4 s c_2 c_4 c_6 c_8 c_10 c_12 c_14 c_16 c_18 c_20 c_22 c_24 c_26)), rfl⟩
                        · exact ⟨(rI_c (vX3_sortHere_5 s c_2 c_4 c_6 c_8 c_10 c_12 c_14 c_16 c_18 c_20 c_22 c_24)), rfl⟩
                      · exact ⟨(rI_c (vX3_sortHere_6 s c_2 c_4 c_6 c_8 c_10 c_12 c_14 c_16 c_18 c_20 c_22)), rfl⟩
                    · exact ⟨(rI_c (vX3_sortHere_7 s c_2 c_4 c_6 c_8 c_10 c_12 c_14 c_16 c_18 c_20)), rfl⟩
                  · exact ⟨(rI_c (vX3_sortHere_8 s c_2 c_4 c_6 c_8 c_10 c_12 c_14 c_16 c_18)), rfl⟩
                · exact ⟨(rI_c (vX3_sortHere_9 s c_2 c_4 c_6 c_8 c_10 c_12 c_14 c_16)), rfl⟩
              · exact ⟨(rI_c (vX3_sortHere_10 s c_2 c_4 c_6 c_8 c_10 c_12 c_14)), rfl⟩
            · exact ⟨(rI_c (vX3_sortHere_11 s c_2 c_4 c_6 c_8 c_10 c_12)), rfl⟩
          · exact ⟨(rI_c (vX3_sortHere_12 s c_2 c_4 c_6 c_8 c_10)), rfl⟩
        · exact ⟨(rI_c (vX3_sortHere_13 s c_2 c_4 c_6 c_8)), rfl⟩
      · exact ⟨(rI_c (vX3_sortHere_14 s c_2 c_4 c_6)), rfl⟩
    · exact ⟨(rI_c (vX3_sortHere_15 s c_2 c_4)), rfl⟩
  · exact ⟨(rI_c (vX3_sortHere_16 s c_2)), rfl⟩
