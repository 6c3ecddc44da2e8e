/-! contracts of the reference: takes asks ends number_2 -/
set_option maxRecDepth 100000
def HX3_takes_0 (Q : Option AV → MS → Prop) (b : AH) (s : MS) (x1 : Int) (k7 : Int) (k8 : Int) (k9 : Int) (k10 : Int) (k11 : Int) : Prop := MW mX3_takes 3 Q b 0 [(0, vR 351), (1, vL x1)] [] (sS (sS (sS (sS (sS s 7 k7) 8 k8) 9 k9) 10 k10) 11 k11)
theorem bX3_takes_0 {Q : Option AV → MS → Prop} (b : AH) (s : MS) (x1 : Int) (k7 : Int) (k8 : Int) (k9 : Int) (k10 : Int) (k11 : Int) (K : (¬ (bI ((s.1 12) = 0 ∧ k8 = 1 ∧ k11 = x1)) = 0 → (0 ≤ k7 ∧ k7 ≤ (s.1 6) ∧ (s.1 6) ≤ 800) ∧ (Q (some (vI 1)) (sS (sS (sS (sS (sS s 7 (enx (s.2 4) (s.1 6) k7)) 8 (knd (s.2 4) (s.1 6) k7)) 9 (plc (s.2 4) (s.1 6) k7)) 10 (vlu (s.2 4) (s.1 6) k7)) 11 (wrd (s.2 4) (s.1 6) k7)))) ∧ ((bI ((s.1 12) = 0 ∧ k8 = 1 ∧ k11 = x1)) = 0 → Q (some (vI 0)) (sS (sS (sS (sS (sS s 7 k7) 8 k8) 9 k9) 10 k10) 11 k11))) : HX3_takes_0 Q b s x1 k7 k8 k9 k10 k11 := by
  refine JW.aload_n dX3_takes_0 rfl ?_
  refine JW.lload_n dX3_takes_1 rfl ?_
  refine JW.mcall (As := [vL x1]) dX3_takes_2 vX3_is rfl q1704 (ctX3_is b (sS (sS (sS (sS (sS s 7 k7) 8 k8) 9 k9) 10 k10) 11 k11) x1) (Nat.le_of_ble_eq_true rfl) rfl (Nat.le_of_ble_eq_true rfl) ?_
  rintro _ _ ⟨rfl, eq_1⟩
  refine JW.steq (s2 := sS (sS (sS (sS (sS s 7 k7) 8 k8) 9 k9) 10 k10) 11 k11) eq_1 ?_
  refine JW.if_ne (tgt := 10) dX3_takes_5 rfl (fun c_2 => ?_) (fun c_2 => ?_)
  · have K := K.1 c_2
    refine JW.aload_n dX3_takes_10 rfl ?_
    obtain ⟨o_3, K⟩ := K
    refine JW.mcall (As := []) dX3_takes_11 vX3_next rfl q1674 (ctX3_next b (sS (sS (sS (sS (sS s 7 k7) 8 k8) 9 k9) 10 k10) 11 k11) o_3) (Nat.le_of_ble_eq_true rfl) rfl (Nat.le_of_ble_eq_true rfl) ?_
    rintro _ _ ⟨rfl, rfl⟩
    refine JW.steq (s2 := sS (sS (sS (sS (sS s 7 (enx (s.2 4) (s.1 6) k7)) 8 (knd (s.2 4) (s.1 6) k7)) 9 (plc (s.2 4) (s.1 6) k7)) 10 (vlu (s.2 4) (s.1 6) k7)) 11 (wrd (s.2 4) (s.1 6) k7)) (by simp only [sA_A, sS_S, sA_S, sA_lt, sS_lt, Nat.reduceLT, id_eq] <;> rfl) ?_
    refine JW.iconst dX3_takes_14 rfl ?_
    exact JW.zreturn dX3_takes_15 rfl (Or.inr rfl) ⟨_, rfl, K⟩
  · have K := K.2 c_2
    refine JW.iconst dX3_takes_8 rfl ?_
    exact JW.zreturn dX3_takes_9 rfl (Or.inl rfl) ⟨_, rfl, K⟩
def QX3_takes (s : MS) (a1 : Int) : Option AV → MS → Prop := fun v s' => v = some (vI (bI ((s.1 12) = 0 ∧ (s.1 8) = 1 ∧ (s.1 11) = a1))) ∧ s' = sS (sS (sS (sS (sS s 7 (if ((s.1 12) = 0 ∧ (s.1 8) = 1 ∧ (s.1 11) = a1) then enx (s.2 4) (s.1 6) (s.1 7) else (s.1 7))) 8 (if ((s.1 12) = 0 ∧ (s.1 8) = 1 ∧ (s.1 11) = a1) then knd (s.2 4) (s.1 6) (s.1 7) else (s.1 8))) 9 (if ((s.1 12) = 0 ∧ (s.1 8) = 1 ∧ (s.1 11) = a1) then plc (s.2 4) (s.1 6) (s.1 7) else (s.1 9))) 10 (if ((s.1 12) = 0 ∧ (s.1 8) = 1 ∧ (s.1 11) = a1) then vlu (s.2 4) (s.1 6) (s.1 7) else (s.1 10))) 11 (if ((s.1 12) = 0 ∧ (s.1 8) = 1 ∧ (s.1 11) = a1) then wrd (s.2 4) (s.1 6) (s.1 7) else (s.1 11))
theorem vX3_takes_1 (s : MS) (a1 : Int) (hp : 0 ≤ (s.1 7) ∧ (s.1 7) ≤ (s.1 6) ∧ (s.1 6) ≤ 800) (c_2 : ¬ (bI ((s.1 12) = 0 ∧ (s.1 8) = 1 ∧ (s.1 11) = a1)) = 0) : (0 ≤ (s.1 7) ∧ (s.1 7) ≤ (s.1 6) ∧ (s.1 6) ≤ 800) := by
  (try simp only [bI_0, bI_n, Classical.not_not] at *)
  (try unfold lex3)
  (try simp only [bI_0, bI_n, Classical.not_not] at *)
  (try simp (disch := omega) only [i32_id] at *)
  first | done | omega | ((repeat' (with_reducible apply And.intro)) <;> first | assumption | rfl | omega | (rw [if_pos (by assumption)]) | (rw [if_neg (by assumption)]) | (rw [bI_t (by assumption)]) | (rw [bI_f (by assumption)]) | grind [upI])
theorem vX3_takes_2 (s : MS) (a1 : Int) (hp : 0 ≤ (s.1 7) ∧ (s.1 7) ≤ (s.1 6) ∧ (s.1 6) ≤ 800) (c_2 : ¬ (bI ((s.1 12) = 0 ∧ (s.1 8) = 1 ∧ (s.1 11) = a1)) = 0) (o_3 : (0 ≤ (s.1 7) ∧ (s.1 7) ≤ (s.1 6) ∧ (s.1 6) ≤ 800)) : (enx (s.2 4) (s.1 6) (s.1 7)) = (if ((s.1 12) = 0 ∧ (s.1 8) = 1 ∧ (s.1 11) = a1) then enx (s.2 4) (s.1 6) (s.1 7) else (s.1 7)) := by
  (try simp only [bI_0, bI_n, Classical.not_not] at *)
  (try unfold lex3)
  (try simp only [bI_0, bI_n, Classical.not_not] at *)
  (try simp (disch := omega) only [i32_id] at *)
  first | done | omega | ((repeat' (with_reducible apply And.intro)) <;> first | assumption | rfl | omega | (rw [if_pos (by assumption)]) | (rw [if_neg (by assumption)]) | (rw [bI_t (by assumption)]) | (rw [bI_f (by assumption)]) | grind [upI])
theorem vX3_takes_3 (s : MS) (a1 : Int) (hp : 0 ≤ (s.1 7) ∧ (s.1 7) ≤ (s.1 6) ∧ (s.1 6) ≤ 800) (c_2 : ¬ (bI ((s.1 12) = 0 ∧ (s.1 8) = 1 ∧ (s.1 11) = a1)) = 0) (o_3 : (0 ≤ (s.1 7) ∧ (s.1 7) ≤ (s.1 6) ∧ (s.1 6) ≤ 800)) : (knd (s.2 4) (s.1 6) (s.1 7)) = (if ((s.1 12) = 0 ∧ (s.1 8) = 1 ∧ (s.1 11) = a1) then knd (s.2 4) (s.1 6) (s.1 7) else (s.1 8)) := by
  (try simp only [bI_0, bI_n, Classical.not_not] at *)
  (try unfold lex3)
  (try simp only [bI_0, bI_n, Classical.not_not] at *)
  (try simp (disch := omega) only [i32_id] at *)
  first | done | omega | ((repeat' (with_reducible apply And.intro)) <;> first | assumption | rfl | omega | (rw [if_pos (by assumption)]) | (rw [if_neg (by assumption)]) | (rw [bI_t (by assumption)]) | (rw [bI_f (by assumption)]) | grind [upI])
theorem vX3_takes_4 (s : MS) (a1 : Int) (hp : 0 ≤ (s.1 7) ∧ (s.1 7) ≤ (s.1 6) ∧ (s.1 6) ≤ 800) (c_2 : ¬ (bI ((s.1 12) = 0 ∧ (s.1 8) = 1 ∧ (s.1 11) = a1)) = 0) (o_3 : (0 ≤ (s.1 7) ∧ (s.1 7) ≤ (s.1 6) ∧ (s.1 6) ≤ 800)) : (plc (s.2 4) (s.1 6) (s.1 7)) = (if ((s.1 12) = 0 ∧ (s.1 8) = 1 ∧ (s.1 11) = a1) then plc (s.2 4) (s.1 6) (s.1 7) else (s.1 9)) := by
  (try simp only [bI_0, bI_n, Classical.not_not] at *)
  (try unfold lex3)
  (try simp only [bI_0, bI_n, Classical.not_not] at *)
  (try simp (disch := omega) only [i32_id] at *)
  first | done | omega | ((repeat' (with_reducible apply And.intro)) <;> first | assumption | rfl | omega | (rw [if_pos (by assumption)]) | (rw [if_neg (by assumption)]) | (rw [bI_t (by assumption)]) | (rw [bI_f (by assumption)]) | grind [upI])
theorem vX3_takes_5 (s : MS) (a1 : Int) (hp : 0 ≤ (s.1 7) ∧ (s.1 7) ≤ (s.1 6) ∧ (s.1 6) ≤ 800) (c_2 : ¬ (bI ((s.1 12) = 0 ∧ (s.1 8) = 1 ∧ (s.1 11) = a1)) = 0) (o_3 : (0 ≤ (s.1 7) ∧ (s.1 7) ≤ (s.1 6) ∧ (s.1 6) ≤ 800)) : (vlu (s.2 4) (s.1 6) (s.1 7)) = (if ((s.1 12) = 0 ∧ (s.1 8) = 1 ∧ (s.1 11) = a1) then vlu (s.2 4) (s.1 6) (s.1 7) else (s.1 10)) := by
  (try simp only [bI_0, bI_n, Classical.not_not] at *)
  (try unfold lex3)
  (try simp only [bI_0, bI_n, Classical.not_not] at *)
  (try simp (disch := omega) only [i32_id] at *)
  first | done | omega | ((repeat' (with_reducible apply And.intro)) <;> first | assumption | rfl | omega | (rw [if_pos (by assumption)]) | (rw [if_neg (by assumption)]) | (rw [bI_t (by assumption)]) | (rw [bI_f (by assumption)]) | grind [upI])
theorem vX3_takes_6 (s : MS) (a1 : Int) (hp : 0 ≤ (s.1 7) ∧ (s.1 7) ≤ (s.1 6) ∧ (s.1 6) ≤ 800) (c_2 : ¬ (bI ((s.1 12) = 0 ∧ (s.1 8) = 1 ∧ (s.1 11) = a1)) = 0) (o_3 : (0 ≤ (s.1 7) ∧ (s.1 7) ≤ (s.1 6) ∧ (s.1 6) ≤ 800)) : (wrd (s.2 4) (s.1 6) (s.1 7)) = (if ((s.1 12) = 0 ∧ (s.1 8) = 1 ∧ (s.1 11) = a1) then wrd (s.2 4) (s.1 6) (s.1 7) else (s.1 11)) := by
  (try simp only [bI_0, bI_n, Classical.not_not] at *)
  (try unfold lex3)
  (try simp only [bI_0, bI_n, Classical.not_not] at *)
  (try simp (disch := omega) only [i32_id] at *)
  first | done | omega | ((repeat' (with_reducible apply And.intro)) <;> first | assumption | rfl | omega | (rw [if_pos (by assumption)]) | (rw [if_neg (by assumption)]) | (rw [bI_t (by assumption)]) | (rw [bI_f (by assumption)]) | grind [upI])
theorem vX3_takes_7 (s : MS) (a1 : Int) (hp : 0 ≤ (s.1 7) ∧ (s.1 7) ≤ (s.1 6) ∧ (s.1 6) ≤ 800) (c_2 : ¬ (bI ((s.1 12) = 0 ∧ (s.1 8) = 1 ∧ (s.1 11) = a1)) = 0) (o_3 : (0 ≤ (s.1 7) ∧ (s.1 7) ≤ (s.1 6) ∧ (s.1 6) ≤ 800)) : 1 = (bI ((s.1 12) = 0 ∧ (s.1 8) = 1 ∧ (s.1 11) = a1)) := by
  (try simp only [bI_0, bI_n, Classical.not_not] at *)
  (try unfold lex3)
  (try simp only [bI_0, bI_n, Classical.not_not] at *)
  (try simp (disch := omega) only [i32_id] at *)
  first | done | omega | ((repeat' (with_reducible apply And.intro)) <;> first | assumption | rfl | omega | (rw [if_pos (by assumption)]) | (rw [if_neg (by assumption)]) | (rw [bI_t (by assumption)]) | (rw [bI_f (by assumption)]) | grind [upI])
theorem vX3_takes_8 (s : MS) (a1 : Int) (hp : 0 ≤ (s.1 7) ∧ (s.1 7) ≤ (s.1 6) ∧ (s.1 6) ≤ 800) (c_2 : (bI ((s.1 12) = 0 ∧ (s.1 8) = 1 ∧ (s.1 11) = a1)) = 0) : (s.1 7) = (if ((s.1 12) = 0 ∧ (s.1 8) = 1 ∧ (s.1 11) = a1) then enx (s.2 4) (s.1 6) (s.1 7) else (s.1 7)) := by
  (try simp only [bI_0, bI_n, Classical.not_not] at *)
  (try unfold lex3)
  (try simp only [bI_0, bI_n, Classical.not_not] at *)
  (try simp (disch := omega) only [i32_id] at *)
  first | done | omega | ((repeat' (with_reducible apply And.intro)) <;> first | assumption | rfl | omega | (rw [if_pos (by assumption)]) | (rw [if_neg (by assumption)]) | (rw [bI_t (by assumption)]) | (rw [bI_f (by assumption)]) | grind [upI])
theorem vX3_takes_9 (s : MS) (a1 : Int) (hp : 0 ≤ (s.1 7) ∧ (s.1 7) ≤ (s.1 6) ∧ (s.1 6) ≤ 800) (c_2 : (bI ((s.1 12) = 0 ∧ (s.1 8) = 1 ∧ (s.1 11) = a1)) = 0) : (s.1 8) = (if ((s.1 12) = 0 ∧ (s.1 8) = 1 ∧ (s.1 11) = a1) then knd (s.2 4) (s.1 6) (s.1 7) else (s.1 8)) := by
  (try simp only [bI_0, bI_n, Classical.not_not] at *)
  (try unfold lex3)
  (try simp only [bI_0, bI_n, Classical.not_not] at *)
  (try simp (disch := omega) only [i32_id] at *)
  first | done | omega | ((repeat' (with_reducible apply And.intro)) <;> first | assumption | rfl | omega | (rw [if_pos (by assumption)]) | (rw [if_neg (by assumption)]) | (rw [bI_t (by assumption)]) | (rw [bI_f (by assumption)]) | grind [upI])
theorem vX3_takes_10 (s : MS) (a1 : Int) (hp : 0 ≤ (s.1 7) ∧ (s.1 7) ≤ (s.1 6) ∧ (s.1 6) ≤ 800) (c_2 : (bI ((s.1 12) = 0 ∧ (s.1 8) = 1 ∧ (s.1 11) = a1)) = 0) : (s.1 9) = (if ((s.1 12) = 0 ∧ (s.1 8) = 1 ∧ (s.1 11) = a1) then plc (s.2 4) (s.1 6) (s.1 7) else (s.1 9)) := by
  (try simp only [bI_0, bI_n, Classical.not_not] at *)
  (try unfold lex3)
  (try simp only [bI_0, bI_n, Classical.not_not] at *)
  (try simp (disch := omega) only [i32_id] at *)
  first | done | omega | ((repeat' (with_reducible apply And.intro)) <;> first | assumption | rfl | omega | (rw [if_pos (by assumption)]) | (rw [if_neg (by assumption)]) | (rw [bI_t (by assumption)]) | (rw [bI_f (by assumption)]) | grind [upI])
theorem vX3_takes_11 (s : MS) (a1 : Int) (hp : 0 ≤ (s.1 7) ∧ (s.1 7) ≤ (s.1 6) ∧ (s.1 6) ≤ 800) (c_2 : (bI ((s.1 12) = 0 ∧ (s.1 8) = 1 ∧ (s.1 11) = a1)) = 0) : (s.1 10) = (if ((s.1 12) = 0 ∧ (s.1 8) = 1 ∧ (s.1 11) = a1) then vlu (s.2 4) (s.1 6) (s.1 7) else (s.1 10)) := by
  (try simp only [bI_0, bI_n, Classical.not_not] at *)
  (try unfold lex3)
  (try simp only [bI_0, bI_n, Classical.not_not] at *)
  (try simp (disch := omega) only [i32_id] at *)
  first | done | omega | ((repeat' (with_reducible apply And.intro)) <;> first | assumption | rfl | omega | (rw [if_pos (by assumption)]) | (rw [if_neg (by assumption)]) | (rw [bI_t (by assumption)]) | (rw [bI_f (by assumption)]) | grind [upI])
theorem vX3_takes_12 (s : MS) (a1 : Int) (hp : 0 ≤ (s.1 7) ∧ (s.1 7) ≤ (s.1 6) ∧ (s.1 6) ≤ 800) (c_2 : (bI ((s.1 12) = 0 ∧ (s.1 8) = 1 ∧ (s.1 11) = a1)) = 0) : (s.1 11) = (if ((s.1 12) = 0 ∧ (s.1 8) = 1 ∧ (s.1 11) = a1) then wrd (s.2 4) (s.1 6) (s.1 7) else (s.1 11)) := by
  (try simp only [bI_0, bI_n, Classical.not_not] at *)
  (try unfold lex3)
  (try simp only [bI_0, bI_n, Classical.not_not] at *)
  (try simp (disch := omega) only [i32_id] at *)
  first | done | omega | ((repeat' (with_reducible apply And.intro)) <;> first | assumption | rfl | omega | (rw [if_pos (by assumption)]) | (rw [if_neg (by assumption)]) | (rw [bI_t (by assumption)]) | (rw [bI_f (by assumption)]) | grind [upI])
theorem vX3_takes_13 (s : MS) (a1 : Int) (hp : 0 ≤ (s.1 7) ∧ (s.1 7) ≤ (s.1 6) ∧ (s.1 6) ≤ 800) (c_2 : (bI ((s.1 12) = 0 ∧ (s.1 8) = 1 ∧ (s.1 11) = a1)) = 0) : 0 = (bI ((s.1 12) = 0 ∧ (s.1 8) = 1 ∧ (s.1 11) = a1)) := by
  (try simp only [bI_0, bI_n, Classical.not_not] at *)
  (try unfold lex3)
  (try simp only [bI_0, bI_n, Classical.not_not] at *)
  (try simp (disch := omega) only [i32_id] at *)
  first | done | omega | ((repeat' (with_reducible apply And.intro)) <;> first | assumption | rfl | omega | (rw [if_pos (by assumption)]) | (rw [if_neg (by assumption)]) | (rw [bI_t (by assumption)]) | (rw [bI_f (by assumption)]) | grind [upI])
theorem ctX3_takes (b : AH) (s : MS) (a1 : Int) (hp : 0 ≤ (s.1 7) ∧ (s.1 7) ≤ (s.1 6) ∧ (s.1 6) ≤ 800) : MC mX3_takes 3 b s [vL a1] (QX3_takes s a1) := by
  refine MC.of (by decide) rfl (Nat.le_of_ble_eq_true rfl) (JW.steq (s2 := sS (sS (sS (sS (sS s 7 (s.1 7)) 8 (s.1 8)) 9 (s.1 9)) 10 (s.1 10)) 11 (s.1 11)) (by simp only [sA_id, sS_id]) ?_)
  refine bX3_takes_0 b s a1 (s.1 7) (s.1 8) (s.1 9) (s.1 10) (s.1 11) ?_
  refine ⟨fun c_2 => ?_, fun c_2 => ?_⟩
  · have o_3 : (0 ≤ (s.1 7) ∧ (s.1 7) ≤ (s.1 6) ∧ (s.1 6) ≤ 800) := (vX3_takes_1 s a1 hp c_2)
    refine ⟨o_3, ?_⟩
    exact ⟨(rI_c (vX3_takes_7 s a1 hp c_2 o_3)), (sS_c (sS_c (sS_c (sS_c (sS_c rfl (vX3_takes_2 s a1 hp c_2 o_3)) (vX3_takes_3 s a1 hp c_2 o_3)) (vX3_takes_4 s a1 hp c_2 o_3)) (vX3_takes_5 s a1 hp c_2 o_3)) (vX3_takes_6 s a1 hp c_2 o_3))⟩
  · exact ⟨(rI_c (vX3_takes_13 s a1 hp c_2)), (sS_c (sS_c (sS_c (sS_c (sS_c rfl (vX3_takes_8 s a1 hp c_2)) (vX3_takes_9 s a1 hp c_2)) (vX3_takes_10 s a1 hp c_2)) (vX3_takes_11 s a1 hp c_2)) (vX3_takes_12 s a1 hp c_2))⟩
def HX3_asks_0 (Q : Option AV → MS → Prop) (b : AH) (s : MS) (x1 : Int) (k7 : Int) (k8 : Int) (k9 : Int) (k10 : Int) (k11 : Int) (k12 : Int) (k13 : Int) : Prop := MW mX3_asks 4 Q b 0 [(0, vR 351), (1, vL x1)] [] (sS (sS (sS (sS (sS (sS (sS s 7 k7) 8 k8) 9 k9) 10 k10) 11 k11) 12 k12) 13 k13)
theorem bX3_asks_0 {Q : Option AV → MS → Prop} (b : AH) (s : MS) (x1 : Int) (k7 : Int) (k8 : Int) (k9 : Int) (k10 : Int) (k11 : Int) (k12 : Int) (k13 : Int) (K : (0 ≤ k7 ∧ k7 ≤ (s.1 6) ∧ (s.1 6) ≤ 800) ∧ ((¬ (bI (k12 = 0 ∧ k8 = 1 ∧ k11 = x1)) = 0 → Q none (sS (sS (sS (sS (sS (sS (sS s 7 (if (k12 = 0 ∧ k8 = 1 ∧ k11 = x1) then enx (s.2 4) (s.1 6) k7 else k7)) 8 (if (k12 = 0 ∧ k8 = 1 ∧ k11 = x1) then knd (s.2 4) (s.1 6) k7 else k8)) 9 (if (k12 = 0 ∧ k8 = 1 ∧ k11 = x1) then plc (s.2 4) (s.1 6) k7 else k9)) 10 (if (k12 = 0 ∧ k8 = 1 ∧ k11 = x1) then vlu (s.2 4) (s.1 6) k7 else k10)) 11 (if (k12 = 0 ∧ k8 = 1 ∧ k11 = x1) then wrd (s.2 4) (s.1 6) k7 else k11)) 12 k12) 13 k13)) ∧ ((bI (k12 = 0 ∧ k8 = 1 ∧ k11 = x1)) = 0 → Q none (sS (sS (sS (sS (sS (sS (sS s 7 (if (k12 = 0 ∧ k8 = 1 ∧ k11 = x1) then enx (s.2 4) (s.1 6) k7 else k7)) 8 (if (k12 = 0 ∧ k8 = 1 ∧ k11 = x1) then knd (s.2 4) (s.1 6) k7 else k8)) 9 (if (k12 = 0 ∧ k8 = 1 ∧ k11 = x1) then plc (s.2 4) (s.1 6) k7 else k9)) 10 (if (k12 = 0 ∧ k8 = 1 ∧ k11 = x1) then vlu (s.2 4) (s.1 6) k7 else k10)) 11 (if (k12 = 0 ∧ k8 = 1 ∧ k11 = x1) then wrd (s.2 4) (s.1 6) k7 else k11)) 12 (if k12 = 0 then (1 : Int) else k12)) 13 (if k12 = 0 then (if (k12 = 0 ∧ k8 = 1 ∧ k11 = x1) then plc (s.2 4) (s.1 6) k7 else k9) else k13))))) : HX3_asks_0 Q b s x1 k7 k8 k9 k10 k11 k12 k13 := by
  refine JW.aload_n dX3_asks_0 rfl ?_
  refine JW.lload_n dX3_asks_1 rfl ?_
  obtain ⟨o_1, K⟩ := K
  refine JW.mcall (As := [vL x1]) dX3_asks_2 vX3_takes rfl q1700 (ctX3_takes b (sS (sS (sS (sS (sS (sS (sS s 7 k7) 8 k8) 9 k9) 10 k10) 11 k11) 12 k12) 13 k13) x1 o_1) (Nat.le_of_ble_eq_true rfl) rfl (Nat.le_of_ble_eq_true rfl) ?_
  rintro _ _ ⟨rfl, rfl⟩
  refine JW.steq (s2 := sS (sS (sS (sS (sS (sS (sS s 7 (if (k12 = 0 ∧ k8 = 1 ∧ k11 = x1) then enx (s.2 4) (s.1 6) k7 else k7)) 8 (if (k12 = 0 ∧ k8 = 1 ∧ k11 = x1) then knd (s.2 4) (s.1 6) k7 else k8)) 9 (if (k12 = 0 ∧ k8 = 1 ∧ k11 = x1) then plc (s.2 4) (s.1 6) k7 else k9)) 10 (if (k12 = 0 ∧ k8 = 1 ∧ k11 = x1) then vlu (s.2 4) (s.1 6) k7 else k10)) 11 (if (k12 = 0 ∧ k8 = 1 ∧ k11 = x1) then wrd (s.2 4) (s.1 6) k7 else k11)) 12 k12) 13 k13) (by simp only [sA_A, sS_S, sA_S, sA_lt, sS_lt, Nat.reduceLT, id_eq] <;> rfl) ?_
  refine JW.if_ne (tgt := 13) dX3_asks_5 rfl (fun c_3 => ?_) (fun c_3 => ?_)
  · have K := K.1 c_3
    exact JW.vreturn dX3_asks_13 rfl ⟨_, rfl, K⟩
  · have K := K.2 c_3
    refine JW.aload_n dX3_asks_8 rfl ?_
    refine JW.iconst dX3_asks_9 rfl ?_
    refine JW.mcall (As := [vI 1]) dX3_asks_10 vX3_fails rfl q1708 (ctX3_fails b (sS (sS (sS (sS (sS (sS (sS s 7 (if (k12 = 0 ∧ k8 = 1 ∧ k11 = x1) then enx (s.2 4) (s.1 6) k7 else k7)) 8 (if (k12 = 0 ∧ k8 = 1 ∧ k11 = x1) then knd (s.2 4) (s.1 6) k7 else k8)) 9 (if (k12 = 0 ∧ k8 = 1 ∧ k11 = x1) then plc (s.2 4) (s.1 6) k7 else k9)) 10 (if (k12 = 0 ∧ k8 = 1 ∧ k11 = x1) then vlu (s.2 4) (s.1 6) k7 else k10)) 11 (if (k12 = 0 ∧ k8 = 1 ∧ k11 = x1) then wrd (s.2 4) (s.1 6) k7 else k11)) 12 k12) 13 k13) 1) (Nat.le_of_ble_eq_true rfl) rfl (Nat.le_of_ble_eq_true rfl) ?_
    rintro _ _ ⟨rfl, rfl⟩
    refine JW.steq (s2 := sS (sS (sS (sS (sS (sS (sS s 7 (if (k12 = 0 ∧ k8 = 1 ∧ k11 = x1) then enx (s.2 4) (s.1 6) k7 else k7)) 8 (if (k12 = 0 ∧ k8 = 1 ∧ k11 = x1) then knd (s.2 4) (s.1 6) k7 else k8)) 9 (if (k12 = 0 ∧ k8 = 1 ∧ k11 = x1) then plc (s.2 4) (s.1 6) k7 else k9)) 10 (if (k12 = 0 ∧ k8 = 1 ∧ k11 = x1) then vlu (s.2 4) (s.1 6) k7 else k10)) 11 (if (k12 = 0 ∧ k8 = 1 ∧ k11 = x1) then wrd (s.2 4) (s.1 6) k7 else k11)) 12 (if k12 = 0 then (1 : Int) else k12)) 13 (if k12 = 0 then (if (k12 = 0 ∧ k8 = 1 ∧ k11 = x1) then plc (s.2 4) (s.1 6) k7 else k9) else k13)) (by simp only [sA_A, sS_S, sA_S, sA_lt, sS_lt, Nat.reduceLT, id_eq] <;> rfl) ?_
    exact JW.vreturn dX3_asks_13 rfl ⟨_, rfl, K⟩
def QX3_asks (s : MS) (a1 : Int) : Option AV → MS → Prop := fun v s' => ∃ (k7 : Int) (k8 : Int) (k9 : Int) (k10 : Int) (k11 : Int) (k12 : Int) (k13 : Int), v = none ∧ s' = sS (sS (sS (sS (sS (sS (sS s 7 k7) 8 k8) 9 k9) 10 k10) 11 k11) 12 k12) 13 k13 ∧ (needQ (s.2 4) (s.1 6) a1 (s.1 7) (s.1 8) (s.1 9) (s.1 10) (s.1 11) (s.1 12) (s.1 13) k7 k8 k9 k10 k11 k12 k13)
theorem vX3_asks_1 (s : MS) (a1 : Int) (hp : 0 ≤ (s.1 7) ∧ (s.1 7) ≤ (s.1 6) ∧ (s.1 6) ≤ 800) : (0 ≤ (s.1 7) ∧ (s.1 7) ≤ (s.1 6) ∧ (s.1 6) ≤ 800) := by
  (try simp only [bI_0, bI_n, Classical.not_not] at *)
  (try unfold lex3)
  (try simp only [bI_0, bI_n, Classical.not_not] at *)
  (try simp (disch := omega) only [i32_id] at *)
  first | done | omega | ((repeat' (with_reducible apply And.intro)) <;> first | assumption | rfl | omega | ((repeat rw [if_pos (by assumption)]); exact needQ_y hp.1 hp.2.1 (by omega) (by omega) (by omega)) | ((repeat rw [if_neg (by assumption)]); exact needQ_n hp.1 hp.2.1 (by assumption)) | grind [upI])
theorem vX3_asks_2 (s : MS) (a1 : Int) (hp : 0 ≤ (s.1 7) ∧ (s.1 7) ≤ (s.1 6) ∧ (s.1 6) ≤ 800) (o_1 : (0 ≤ (s.1 7) ∧ (s.1 7) ≤ (s.1 6) ∧ (s.1 6) ≤ 800)) (c_3 : ¬ (bI ((s.1 12) = 0 ∧ (s.1 8) = 1 ∧ (s.1 11) = a1)) = 0) : needQ (s.2 4) (s.1 6) a1 (s.1 7) (s.1 8) (s.1 9) (s.1 10) (s.1 11) (s.1 12) (s.1 13) (if ((s.1 12) = 0 ∧ (s.1 8) = 1 ∧ (s.1 11) = a1) then enx (s.2 4) (s.1 6) (s.1 7) else (s.1 7)) (if ((s.1 12) = 0 ∧ (s.1 8) = 1 ∧ (s.1 11) = a1) then knd (s.2 4) (s.1 6) (s.1 7) else (s.1 8)) (if ((s.1 12) = 0 ∧ (s.1 8) = 1 ∧ (s.1 11) = a1) then plc (s.2 4) (s.1 6) (s.1 7) else (s.1 9)) (if ((s.1 12) = 0 ∧ (s.1 8) = 1 ∧ (s.1 11) = a1) then vlu (s.2 4) (s.1 6) (s.1 7) else (s.1 10)) (if ((s.1 12) = 0 ∧ (s.1 8) = 1 ∧ (s.1 11) = a1) then wrd (s.2 4) (s.1 6) (s.1 7) else (s.1 11)) (s.1 12) (s.1 13) := by
  (try simp only [bI_0, bI_n, Classical.not_not] at *)
  (try unfold lex3)
  (try simp only [bI_0, bI_n, Classical.not_not] at *)
  (try simp (disch := omega) only [i32_id] at *)
  first | done | omega | ((repeat' (with_reducible apply And.intro)) <;> first | assumption | rfl | omega | ((repeat rw [if_pos (by assumption)]); exact needQ_y hp.1 hp.2.1 (by omega) (by omega) (by omega)) | ((repeat rw [if_neg (by assumption)]); exact needQ_n hp.1 hp.2.1 (by assumption)) | grind [upI])
theorem vX3_asks_3 (s : MS) (a1 : Int) (hp : 0 ≤ (s.1 7) ∧ (s.1 7) ≤ (s.1 6) ∧ (s.1 6) ≤ 800) (o_1 : (0 ≤ (s.1 7) ∧ (s.1 7) ≤ (s.1 6) ∧ (s.1 6) ≤ 800)) (c_3 : (bI ((s.1 12) = 0 ∧ (s.1 8) = 1 ∧ (s.1 11) = a1)) = 0) : needQ (s.2 4) (s.1 6) a1 (s.1 7) (s.1 8) (s.1 9) (s.1 10) (s.1 11) (s.1 12) (s.1 13) (if ((s.1 12) = 0 ∧ (s.1 8) = 1 ∧ (s.1 11) = a1) then enx (s.2 4) (s.1 6) (s.1 7) else (s.1 7)) (if ((s.1 12) = 0 ∧ (s.1 8) = 1 ∧ (s.1 11) = a1) then knd (s.2 4) (s.1 6) (s.1 7) else (s.1 8)) (if ((s.1 12) = 0 ∧ (s.1 8) = 1 ∧ (s.1 11) = a1) then plc (s.2 4) (s.1 6) (s.1 7) else (s.1 9)) (if ((s.1 12) = 0 ∧ (s.1 8) = 1 ∧ (s.1 11) = a1) then vlu (s.2 4) (s.1 6) (s.1 7) else (s.1 10)) (if ((s.1 12) = 0 ∧ (s.1 8) = 1 ∧ (s.1 11) = a1) then wrd (s.2 4) (s.1 6) (s.1 7) else (s.1 11)) (if (s.1 12) = 0 then (1 : Int) else (s.1 12)) (if (s.1 12) = 0 then (if ((s.1 12) = 0 ∧ (s.1 8) = 1 ∧ (s.1 11) = a1) then plc (s.2 4) (s.1 6) (s.1 7) else (s.1 9)) else (s.1 13)) := by
  (try simp only [bI_0, bI_n, Classical.not_not] at *)
  (try unfold lex3)
  (try simp only [bI_0, bI_n, Classical.not_not] at *)
  (try simp (disch := omega) only [i32_id] at *)
  first | done | omega | ((repeat' (with_reducible apply And.intro)) <;> first | assumption | rfl | omega | ((repeat rw [if_pos (by assumption)]); exact needQ_y hp.1 hp.2.1 (by omega) (by omega) (by omega)) | ((repeat rw [if_neg (by assumption)]); exact needQ_n hp.1 hp.2.1 (by assumption)) | grind [upI])
theorem ctX3_asks (b : AH) (s : MS) (a1 : Int) (hp : 0 ≤ (s.1 7) ∧ (s.1 7) ≤ (s.1 6) ∧ (s.1 6) ≤ 800) : MC mX3_asks 4 b s [vL a1] (QX3_asks s a1) := by
  refine MC.of (by decide) rfl (Nat.le_of_ble_eq_true rfl) (JW.steq (s2 := sS (sS (sS (sS (sS (sS (sS s 7 (s.1 7)) 8 (s.1 8)) 9 (s.1 9)) 10 (s.1 10)) 11 (s.1 11)) 12 (s.1 12)) 13 (s.1 13)) (by simp only [sA_id, sS_id]) ?_)
  refine bX3_asks_0 b s a1 (s.1 7) (s.1 8) (s.1 9) (s.1 10) (s.1 11) (s.1 12) (s.1 13) ?_
  have o_1 : (0 ≤ (s.1 7) ∧ (s.1 7) ≤ (s.1 6) ∧ (s.1 6) ≤ 800) := (vX3_asks_1 s a1 hp)
  refine ⟨o_1, ?_⟩
  refine ⟨fun c_3 => ?_, fun c_3 => ?_⟩
  · exact ⟨(if ((s.1 12) = 0 ∧ (s.1 8) = 1 ∧ (s.1 11) = a1) then enx (s.2 4) (s.1 6) (s.1 7) else (s.1 7)), (if ((s.1 12) = 0 ∧ (s.1 8) = 1 ∧ (s.1 11) = a1) then knd (s.2 4) (s.1 6) (s.1 7) else (s.1 8)), (if ((s.1 12) = 0 ∧ (s.1 8) = 1 ∧ (s.1 11) = a1) then plc (s.2 4) (s.1 6) (s.1 7) else (s.1 9)), (if ((s.1 12) = 0 ∧ (s.1 8) = 1 ∧ (s.1 11) = a1) then vlu (s.2 4) (s.1 6) (s.1 7) else (s.1 10)), (if ((s.1 12) = 0 ∧ (s.1 8) = 1 ∧ (s.1 11) = a1) then wrd (s.2 4) (s.1 6) (s.1 7) else (s.1 11)), (s.1 12), (s.1 13), rfl, rfl, (vX3_asks_2 s a1 hp o_1 c_3)⟩
  · exact ⟨(if ((s.1 12) = 0 ∧ (s.1 8) = 1 ∧ (s.1 11) = a1) then enx (s.2 4) (s.1 6) (s.1 7) else (s.1 7)), (if ((s.1 12) = 0 ∧ (s.1 8) = 1 ∧ (s.1 11) = a1) then knd (s.2 4) (s.1 6) (s.1 7) else (s.1 8)), (if ((s.1 12) = 0 ∧ (s.1 8) = 1 ∧ (s.1 11) = a1) then plc (s.2 4) (s.1 6) (s.1 7) else (s.1 9)), (if ((s.1 12) = 0 ∧ (s.1 8) = 1 ∧ (s.1 11) = a1) then vlu (s.2 4) (s.1 6) (s.1 7) else (s.1 10)), (if ((s.1 12) = 0 ∧ (s.1 8) = 1 ∧ (s.1 11) = a1) then wrd (s.2 4) (s.1 6) (s.1 7) else (s.1 11)), (if (s.1 12) = 0 then (1 : Int) else (s.1 12)), (if (s.1 12) = 0 then (if ((s.1 12) = 0 ∧ (s.1 8) = 1 ∧ (s.1 11) = a1) then plc (s.2 4) (s.1 6) (s.1 7) else (s.1 9)) else (s.1 13)), rfl, rfl, (vX3_asks_3 s a1 hp o_1 c_3)⟩
def HX3_ends_0 (Q : Option AV → MS → Prop) (b : AH) (s : MS) (k7 : Int) (k8 : Int) (k9 : Int) (k10 : Int) (k11 : Int) (k12 : Int) (k13 : Int) : Prop := MW mX3_ends 4 Q b 0 [(0, vR 351)] [] (sS (sS (sS (sS (sS (sS (sS s 7 k7) 8 k8) 9 k9) 10 k10) 11 k11) 12 k12) 13 k13)
theorem bX3_ends_0 {Q : Option AV → MS → Prop} (b : AH) (s : MS) (k7 : Int) (k8 : Int) (k9 : Int) (k10 : Int) (k11 : Int) (k12 : Int) (k13 : Int) (K : (k8 = 3 → (¬ k12 = 0 → Q none (sS (sS (sS (sS (sS (sS (sS s 7 k7) 8 k8) 9 k9) 10 k10) 11 k11) 12 k12) 13 k13)) ∧ (k12 = 0 → (0 ≤ k7 ∧ k7 ≤ (s.1 6) ∧ (s.1 6) ≤ 800) ∧ (Q none (sS (sS (sS (sS (sS (sS (sS s 7 (enx (s.2 4) (s.1 6) k7)) 8 (knd (s.2 4) (s.1 6) k7)) 9 (plc (s.2 4) (s.1 6) k7)) 10 (vlu (s.2 4) (s.1 6) k7)) 11 (wrd (s.2 4) (s.1 6) k7)) 12 k12) 13 k13)))) ∧ (¬ k8 = 3 → (¬ (if k12 = 0 then (1 : Int) else k12) = 0 → Q none (sS (sS (sS (sS (sS (sS (sS s 7 k7) 8 k8) 9 k9) 10 k10) 11 k11) 12 (if k12 = 0 then (1 : Int) else k12)) 13 (if k12 = 0 then k9 else k13))) ∧ ((if k12 = 0 then (1 : Int) else k12) = 0 → (0 ≤ k7 ∧ k7 ≤ (s.1 6) ∧ (s.1 6) ≤ 800) ∧ (Q none (sS (sS (sS (sS (sS (sS (sS s 7 (enx (s.2 4) (s.1 6) k7)) 8 (knd (s.2 4) (s.1 6) k7)) 9 (plc (s.2 4) (s.1 6) k7)) 10 (vlu (s.2 4) (s.1 6) k7)) 11 (wrd (s.2 4) (s.1 6) k7)) 12 (if k12 = 0 then (1 : Int) else k12)) 13 (if k12 = 0 then k9 else k13)))))) : HX3_ends_0 Q b s k7 k8 k9 k10 k11 k12 k13 := by
  refine JW.aload_n dX3_ends_0 rfl ?_
  refine JW.mget (v := vI k8) dX3_ends_1 fX3_118 rfl ?_
  refine JW.iconst dX3_ends_4 rfl ?_
  refine JW.icmp_eq (tgt := 13) dX3_ends_5 rfl (fun c_1 => ?_) (fun c_1 => ?_)
  · have K := K.1 c_1
    refine JW.aload_n dX3_ends_13 rfl ?_
    refine JW.mget (v := vI k12) dX3_ends_14 fX3_129 rfl ?_
    refine JW.if_ne (tgt := 24) dX3_ends_17 rfl (fun c_2 => ?_) (fun c_2 => ?_)
    · have K := K.1 c_2
      exact JW.vreturn dX3_ends_24 rfl ⟨_, rfl, K⟩
    · have K := K.2 c_2
      refine JW.aload_n dX3_ends_20 rfl ?_
      obtain ⟨o_3, K⟩ := K
      refine JW.mcall (As := []) dX3_ends_21 vX3_next rfl q1674 (ctX3_next b (sS (sS (sS (sS (sS (sS (sS s 7 k7) 8 k8) 9 k9) 10 k10) 11 k11) 12 k12) 13 k13) o_3) (Nat.le_of_ble_eq_true rfl) rfl (Nat.le_of_ble_eq_true rfl) ?_
      rintro _ _ ⟨rfl, rfl⟩
      refine JW.steq (s2 := sS (sS (sS (sS (sS (sS (sS s 7 (enx (s.2 4) (s.1 6) k7)) 8 (knd (s.2 4) (s.1 6) k7)) 9 (plc (s.2 4) (s.1 6) k7)) 10 (vlu (s.2 4) (s.1 6) k7)) 11 (wrd (s.2 4) (s.1 6) k7)) 12 k12) 13 k13) (by simp only [sA_A, sS_S, sA_S, sA_lt, sS_lt, Nat.reduceLT, id_eq] <;> rfl) ?_
      exact JW.vreturn dX3_ends_24 rfl ⟨_, rfl, K⟩
  · have K := K.2 c_1
    refine JW.aload_n dX3_ends_8 rfl ?_
    refine JW.iconst dX3_ends_9 rfl ?_
    refine JW.mcall (As := [vI 1]) dX3_ends_10 vX3_fails rfl q1708 (ctX3_fails b (sS (sS (sS (sS (sS (sS (sS s 7 k7) 8 k8) 9 k9) 10 k10) 11 k11) 12 k12) 13 k13) 1) (Nat.le_of_ble_eq_true rfl) rfl (Nat.le_of_ble_eq_true rfl) ?_
    rintro _ _ ⟨rfl, rfl⟩
    refine JW.steq (s2 := sS (sS (sS (sS (sS (sS (sS s 7 k7) 8 k8) 9 k9) 10 k10) 11 k11) 12 (if k12 = 0 then (1 : Int) else k12)) 13 (if k12 = 0 then k9 else k13)) (by simp only [sA_A, sS_S, sA_S, sA_lt, sS_lt, Nat.reduceLT, id_eq] <;> rfl) ?_
    refine JW.aload_n dX3_ends_13 rfl ?_
    refine JW.mget (v := vI (if k12 = 0 then (1 : Int) else k12)) dX3_ends_14 fX3_129 rfl ?_
    refine JW.if_ne (tgt := 24) dX3_ends_17 rfl (fun c_6 => ?_) (fun c_6 => ?_)
    · have K := K.1 c_6
      exact JW.vreturn dX3_ends_24 rfl ⟨_, rfl, K⟩
    · have K := K.2 c_6
      refine JW.aload_n dX3_ends_20 rfl ?_
      obtain ⟨o_7, K⟩ := K
      refine JW.mcall (As := []) dX3_ends_21 vX3_next rfl q1674 (ctX3_next b (sS (sS (sS (sS (sS (sS (sS s 7 k7) 8 k8) 9 k9) 10 k10) 11 k11) 12 (if k12 = 0 then (1 : Int) else k12)) 13 (if k12 = 0 then k9 else k13)) o_7) (Nat.le_of_ble_eq_true rfl) rfl (Nat.le_of_ble_eq_true rfl) ?_
      rintro _ _ ⟨rfl, rfl⟩
      refine JW.steq (s2 := sS (sS (sS (sS (sS (sS (sS s 7 (enx (s.2 4) (s.1 6) k7)) 8 (knd (s.2 4) (s.1 6) k7)) 9 (plc (s.2 4) (s.1 6) k7)) 10 (vlu (s.2 4) (s.1 6) k7)) 11 (wrd (s.2 4) (s.1 6) k7)) 12 (if k12 = 0 then (1 : Int) else k12)) 13 (if k12 = 0 then k9 else k13)) (by simp only [sA_A, sS_S, sA_S, sA_lt, sS_lt, Nat.reduceLT, id_eq] <;> rfl) ?_
      exact JW.vreturn dX3_ends_24 rfl ⟨_, rfl, K⟩
def QX3_ends (s : MS) : Option AV → MS → Prop := fun v s' => ∃ (k7 : Int) (k8 : Int) (k9 : Int) (k10 : Int) (k11 : Int) (k12 : Int) (k13 : Int), v = none ∧ s' = sS (sS (sS (sS (sS (sS (sS s 7 k7) 8 k8) 9 k9) 10 k10) 11 k11) 12 k12) 13 k13 ∧ (stopQ (s.2 4) (s.1 6) (s.1 7) (s.1 8) (s.1 9) (s.1 10) (s.1 11) (s.1 12) (s.1 13) k7 k8 k9 k10 k11 k12 k13)
theorem vcX3_ends_1 (s : MS) (hp : 0 ≤ (s.1 7) ∧ (s.1 7) ≤ (s.1 6) ∧ (s.1 6) ≤ 800) (c_1 : (s.1 8) = 3) (c_2 : ¬ (s.1 12) = 0) : stopQ (s.2 4) (s.1 6) (s.1 7) (s.1 8) (s.1 9) (s.1 10) (s.1 11) (s.1 12) (s.1 13) (s.1 7) (s.1 8) (s.1 9) (s.1 10) (s.1 11) (s.1 12) (s.1 13) := by
  (try simp only [bI_0, bI_n, Classical.not_not] at *)
  (try unfold lex3)
  (try simp only [bI_0, bI_n, Classical.not_not] at *)
  (try simp (disch := omega) only [i32_id] at *)
  first | done | omega | ((repeat' (with_reducible apply And.intro)) <;> first | assumption | rfl | omega | (rw [if_neg (by omega)] at *; omega) | (exact stopQ_y hp.1 hp.2.1 (by omega) (by omega)) | (exact stopQ_n hp.1 hp.2.1 (Or.inr (by omega)) rfl rfl) | (exact stopQ_n hp.1 hp.2.1 (Or.inl (by omega)) (by rw [if_neg (by omega)]) (by rw [if_neg (by omega)])) | grind [upI])
theorem vcX3_ends_2 (s : MS) (hp : 0 ≤ (s.1 7) ∧ (s.1 7) ≤ (s.1 6) ∧ (s.1 6) ≤ 800) (c_1 : (s.1 8) = 3) (c_2 : (s.1 12) = 0) : (0 ≤ (s.1 7) ∧ (s.1 7) ≤ (s.1 6) ∧ (s.1 6) ≤ 800) := by
  (try simp only [bI_0, bI_n, Classical.not_not] at *)
  (try unfold lex3)
  (try simp only [bI_0, bI_n, Classical.not_not] at *)
  (try simp (disch := omega) only [i32_id] at *)
  first | done | omega | ((repeat' (with_reducible apply And.intro)) <;> first | assumption | rfl | omega | (rw [if_neg (by omega)] at *; omega) | (exact stopQ_y hp.1 hp.2.1 (by omega) (by omega)) | (exact stopQ_n hp.1 hp.2.1 (Or.inr (by omega)) rfl rfl) | (exact stopQ_n hp.1 hp.2.1 (Or.inl (by omega)) (by rw [if_neg (by omega)]) (by rw [if_neg (by omega)])) | grind [upI])
theorem vcX3_ends_3 (s : MS) (hp : 0 ≤ (s.1 7) ∧ (s.1 7) ≤ (s.1 6) ∧ (s.1 6) ≤ 800) (c_1 : (s.1 8) = 3) (c_2 : (s.1 12) = 0) (o_3 : (0 ≤ (s.1 7) ∧ (s.1 7) ≤ (s.1 6) ∧ (s.1 6) ≤ 800)) : stopQ (s.2 4) (s.1 6) (s.1 7) (s.1 8) (s.1 9) (s.1 10) (s.1 11) (s.1 12) (s.1 13) (enx (s.2 4) (s.1 6) (s.1 7)) (knd (s.2 4) (s.1 6) (s.1 7)) (plc (s.2 4) (s.1 6) (s.1 7)) (vlu (s.2 4) (s.1 6) (s.1 7)) (wrd (s.2 4) (s.1 6) (s.1 7)) (s.1 12) (s.1 13) := by
  (try simp only [bI_0, bI_n, Classical.not_not] at *)
  (try unfold lex3)
  (try simp only [bI_0, bI_n, Classical.not_not] at *)
  (try simp (disch := omega) only [i32_id] at *)
  first | done | omega | ((repeat' (with_reducible apply And.intro)) <;> first | assumption | rfl | omega | (rw [if_neg (by omega)] at *; omega) | (exact stopQ_y hp.1 hp.2.1 (by omega) (by omega)) | (exact stopQ_n hp.1 hp.2.1 (Or.inr (by omega)) rfl rfl) | (exact stopQ_n hp.1 hp.2.1 (Or.inl (by omega)) (by rw [if_neg (by omega)]) (by rw [if_neg (by omega)])) | grind [upI])
theorem vcX3_ends_4 (s : MS) (hp : 0 ≤ (s.1 7) ∧ (s.1 7) ≤ (s.1 6) ∧ (s.1 6) ≤ 800) (c_1 : ¬ (s.1 8) = 3) (c_6 : ¬ (if (s.1 12) = 0 then (1 : Int) else (s.1 12)) = 0) : stopQ (s.2 4) (s.1 6) (s.1 7) (s.1 8) (s.1 9) (s.1 10) (s.1 11) (s.1 12) (s.1 13) (s.1 7) (s.1 8) (s.1 9) (s.1 10) (s.1 11) (if (s.1 12) = 0 then (1 : Int) else (s.1 12)) (if (s.1 12) = 0 then (s.1 9) else (s.1 13)) := by
  (try simp only [bI_0, bI_n, Classical.not_not] at *)
  (try unfold lex3)
  (try simp only [bI_0, bI_n, Classical.not_not] at *)
  (try simp (disch := omega) only [i32_id] at *)
  first | done | omega | ((repeat' (with_reducible apply And.intro)) <;> first | assumption | rfl | omega | (rw [if_neg (by omega)] at *; omega) | (exact stopQ_y hp.1 hp.2.1 (by omega) (by omega)) | (exact stopQ_n hp.1 hp.2.1 (Or.inr (by omega)) rfl rfl) | (exact stopQ_n hp.1 hp.2.1 (Or.inl (by omega)) (by rw [if_neg (by omega)]) (by rw [if_neg (by omega)])) | grind [upI])
theorem vcX3_ends_5 (s : MS) (hp : 0 ≤ (s.1 7) ∧ (s.1 7) ≤ (s.1 6) ∧ (s.1 6) ≤ 800) (c_1 : ¬ (s.1 8) = 3) (c_6 : (if (s.1 12) = 0 then (1 : Int) else (s.1 12)) = 0) : (0 ≤ (s.1 7) ∧ (s.1 7) ≤ (s.1 6) ∧ (s.1 6) ≤ 800) := by
  (try simp only [bI_0, bI_n, Classical.not_not] at *)
  (try unfold lex3)
  (try simp only [bI_0, bI_n, Classical.not_not] at *)
  (try simp (disch := omega) only [i32_id] at *)
  first | done | omega | ((repeat' (with_reducible apply And.intro)) <;> first | assumption | rfl | omega | (rw [if_neg (by omega)] at *; omega) | (exact stopQ_y hp.1 hp.2.1 (by omega) (by omega)) | (exact stopQ_n hp.1 hp.2.1 (Or.inr (by omega)) rfl rfl) | (exact stopQ_n hp.1 hp.2.1 (Or.inl (by omega)) (by rw [if_neg (by omega)]) (by rw [if_neg (by omega)])) | grind [upI])
theorem vcX3_ends_6 (s : MS) (hp : 0 ≤ (s.1 7) ∧ (s.1 7) ≤ (s.1 6) ∧ (s.1 6) ≤ 800) (c_1 : ¬ (s.1 8) = 3) (c_6 : (if (s.1 12) = 0 then (1 : Int) else (s.1 12)) = 0) (o_7 : (0 ≤ (s.1 7) ∧ (s.1 7) ≤ (s.1 6) ∧ (s.1 6) ≤ 800)) : stopQ (s.2 4) (s.1 6) (s.1 7) (s.1 8) (s.1 9) (s.1 10) (s.1 11) (s.1 12) (s.1 13) (enx (s.2 4) (s.1 6) (s.1 7)) (knd (s.2 4) (s.1 6) (s.1 7)) (plc (s.2 4) (s.1 6) (s.1 7)) (vlu (s.2 4) (s.1 6) (s.1 7)) (wrd (s.2 4) (s.1 6) (s.1 7)) (if (s.1 12) = 0 then (1 : Int) else (s.1 12)) (if (s.1 12) = 0 then (s.1 9) else (s.1 13)) := by
  (try simp only [bI_0, bI_n, Classical.not_not] at *)
  (try unfold lex3)
  (try simp only [bI_0, bI_n, Classical.not_not] at *)
  (try simp (disch := omega) only [i32_id] at *)
  first | done | omega | ((repeat' (with_reducible apply And.intro)) <;> first | assumption | rfl | omega | (rw [if_neg (by omega)] at *; omega) | (exact stopQ_y hp.1 hp.2.1 (by omega) (by omega)) | (exact stopQ_n hp.1 hp.2.1 (Or.inr (by omega)) rfl rfl) | (exact stopQ_n hp.1 hp.2.1 (Or.inl (by omega)) (by rw [if_neg (by omega)]) (by rw [if_neg (by omega)])) | grind [upI])
theorem ctX3_ends (b : AH) (s : MS) (hp : 0 ≤ (s.1 7) ∧ (s.1 7) ≤ (s.1 6) ∧ (s.1 6) ≤ 800) : MC mX3_ends 4 b s [] (QX3_ends s) := by
  refine MC.of (by decide) rfl (Nat.le_of_ble_eq_true rfl) (JW.steq (s2 := sS (sS (sS (sS (sS (sS (sS s 7 (s.1 7)) 8 (s.1 8)) 9 (s.1 9)) 10 (s.1 10)) 11 (s.1 11)) 12 (s.1 12)) 13 (s.1 13)) (by simp only [sA_id, sS_id]) ?_)
  refine bX3_ends_0 b s (s.1 7) (s.1 8) (s.1 9) (s.1 10) (s.1 11) (s.1 12) (s.1 13) ?_
  refine ⟨fun c_1 => ?_, fun c_1 => ?_⟩
  · refine ⟨fun c_2 => ?_, fun c_2 => ?_⟩
    · exact ⟨(s.1 7), (s.1 8), (s.1 9), (s.1 10), (s.1 11), (s.1 12), (s.1 13), rfl, rfl, (vcX3_ends_1 s hp c_1 c_2)⟩
    · have o_3 : (0 ≤ (s.1 7) ∧ (s.1 7) ≤ (s.1 6) ∧ (s.1 6) ≤ 800) := (vcX3_ends_2 s hp c_1 c_2)
      refine ⟨o_3, ?_⟩
      exact ⟨(enx (s.2 4) (s.1 6) (s.1 7)), (knd (s.2 4) (s.1 6) (s.1 7)), (plc (s.2 4) (s.1 6) (s.1 7)), (vlu (s.2 4) (s.1 6) (s.1 7)), (wrd (s.2 4) (s.1 6) (s.1 7)), (s.1 12), (s.1 13), rfl, rfl, (vcX3_ends_3 s hp c_1 c_2 o_3)⟩
  · refine ⟨fun c_6 => ?_, fun c_6 => ?_⟩
    · exact ⟨(s.1 7), (s.1 8), (s.1 9), (s.1 10), (s.1 11), (if (s.1 12) = 0 then (1 : Int) else (s.1 12)), (if (s.1 12) = 0 then (s.1 9) else (s.1 13)), rfl, rfl, (vcX3_ends_4 s hp c_1 c_6)⟩
    · have o_7 : (0 ≤ (s.1 7) ∧ (s.1 7) ≤ (s.1 6) ∧ (s.1 6) ≤ 800) := (vcX3_ends_5 s hp c_1 c_6)
      refine ⟨o_7, ?_⟩
      exact ⟨(enx (s.2 4) (s.1 6) (s.1 7)), (knd (s.2 4) (s.1 6) (s.1 7)), (plc (s.2 4) (s.1 6) (s.1 7)), (vlu (s.2 4) (s.1 6) (s.1 7)), (wrd (s.2 4) (s.1 6) (s.1 7)), (if (s.1 12) = 0 then (1 : Int) else (s.1 12)), (if (s.1 12) = 0 then (s.1 9) else (s.1 13)), rfl, rfl, (vcX3_ends_6 s hp c_1 c_6 o_7)⟩
def HX3_number_2_0 (Q : Option AV → MS → Prop) (b : AH) (s : MS) (x1 : Int) (x2 : Int) (k7 : Int) (k8 : Int) (k9 : Int) (k10 : Int) (k11 : Int) (k12 : Int) (k13 : Int) : Prop := MW mX3_number_2 4 Q b 0 [(0, vR 351), (1, vI x1), (2, vI x2)] [] (sS (sS (sS (sS (sS (sS (sS s 7 k7) 8 k8) 9 k9) 10 k10) 11 k11) 12 k12) 13 k13)
theorem bX3_number_2_0 {Q : Option AV → MS → Prop} (b : AH) (s : MS) (x1 : Int) (x2 : Int) (k7 : Int) (k8 : Int) (k9 : Int) (k10 : Int) (k11 : Int) (k12 : Int) (k13 : Int) (K : (k12 = 0 → (k8 = 2 → (¬ (bI (x1 ≤ k10 ∧ k10 ≤ x2)) = 0 → (0 ≤ k7 ∧ k7 ≤ (s.1 6) ∧ (s.1 6) ≤ 800) ∧ (Q (some (vI k10)) (sS (sS (sS (sS (sS (sS (sS s 7 (enx (s.2 4) (s.1 6) k7)) 8 (knd (s.2 4) (s.1 6) k7)) 9 (plc (s.2 4) (s.1 6) k7)) 10 (vlu (s.2 4) (s.1 6) k7)) 11 (wrd (s.2 4) (s.1 6) k7)) 12 k12) 13 k13))) ∧ ((bI (x1 ≤ k10 ∧ k10 ≤ x2)) = 0 → Q (some (vI x1)) (sS (sS (sS (sS (sS (sS (sS s 7 k7) 8 k8) 9 k9) 10 k10) 11 k11) 12 (if k12 = 0 then (2 : Int) else k12)) 13 (if k12 = 0 then k9 else k13)))) ∧ (¬ k8 = 2 → Q (some (vI x1)) (sS (sS (sS (sS (sS (sS (sS s 7 k7) 8 k8) 9 k9) 10 k10) 11 k11) 12 (if k12 = 0 then (1 : Int) else k12)) 13 (if k12 = 0 then k9 else k13)))) ∧ (¬ k12 = 0 → Q (some (vI x1)) (sS (sS (sS (sS (sS (sS (sS s 7 k7) 8 k8) 9 k9) 10 k10) 11 k11) 12 k12) 13 k13))) : HX3_number_2_0 Q b s x1 x2 k7 k8 k9 k10 k11 k12 k13 := by
  refine JW.aload_n dX3_number_2_0 rfl ?_
  refine JW.mget (v := vI k12) dX3_number_2_1 fX3_129 rfl ?_
  refine JW.if_eq (tgt := 9) dX3_number_2_4 rfl (fun c_1 => ?_) (fun c_1 => ?_)
  · have K := K.1 c_1
    refine JW.aload_n dX3_number_2_9 rfl ?_
    refine JW.mget (v := vI k8) dX3_number_2_10 fX3_118 rfl ?_
    refine JW.iconst dX3_number_2_13 rfl ?_
    refine JW.icmp_eq (tgt := 24) dX3_number_2_14 rfl (fun c_2 => ?_) (fun c_2 => ?_)
    · have K := K.1 c_2
      refine JW.aload_n dX3_number_2_24 rfl ?_
      refine JW.mget (v := vI k10) dX3_number_2_25 fX3_111 rfl ?_
      refine JW.i2l dX3_number_2_28 ?_
      refine JW.iload_n dX3_number_2_29 rfl ?_
      refine JW.i2l dX3_number_2_30 ?_
      refine JW.iload_n dX3_number_2_31 rfl ?_
      refine JW.i2l dX3_number_2_32 ?_
      refine JW.mcallS (As := [vL k10, vL x1, vL x2]) dX3_number_2_33 vX3_in q1632 (ctX3_in b (sS (sS (sS (sS (sS (sS (sS s 7 k7) 8 k8) 9 k9) 10 k10) 11 k11) 12 k12) 13 k13) k10 x1 x2) (Nat.le_of_ble_eq_true rfl) rfl (Nat.le_of_ble_eq_true rfl) ?_
      rintro _ _ ⟨rfl, eq_3⟩
      refine JW.steq (s2 := sS (sS (sS (sS (sS (sS (sS s 7 k7) 8 k8) 9 k9) 10 k10) 11 k11) 12 k12) 13 k13) eq_3 ?_
      refine JW.if_ne (tgt := 46) dX3_number_2_36 rfl (fun c_4 => ?_) (fun c_4 => ?_)
      · have K := K.1 c_4
        refine JW.aload_n dX3_number_2_46 rfl ?_
        refine JW.mget (v := vI k10) dX3_number_2_47 fX3_111 rfl ?_
        refine JW.istore_n (ls' := [(0, vR 351), (1, vI x1), (2, vI x2), (3, vI k10)]) dX3_number_2_50 (Nat.le_of_ble_eq_true rfl) rfl ?_
        refine JW.aload_n dX3_number_2_51 rfl ?_
        obtain ⟨o_5, K⟩ := K
        refine JW.mcall (As := []) dX3_number_2_52 vX3_next rfl q1674 (ctX3_next b (sS (sS (sS (sS (sS (sS (sS s 7 k7) 8 k8) 9 k9) 10 k10) 11 k11) 12 k12) 13 k13) o_5) (Nat.le_of_ble_eq_true rfl) rfl (Nat.le_of_ble_eq_true rfl) ?_
        rintro _ _ ⟨rfl, rfl⟩
        refine JW.steq (s2 := sS (sS (sS (sS (sS (sS (sS s 7 (enx (s.2 4) (s.1 6) k7)) 8 (knd (s.2 4) (s.1 6) k7)) 9 (plc (s.2 4) (s.1 6) k7)) 10 (vlu (s.2 4) (s.1 6) k7)) 11 (wrd (s.2 4) (s.1 6) k7)) 12 k12) 13 k13) (by simp only [sA_A, sS_S, sA_S, sA_lt, sS_lt, Nat.reduceLT, id_eq] <;> rfl) ?_
        refine JW.iload_n dX3_number_2_55 rfl ?_
        exact JW.ireturn dX3_number_2_56 rfl rfl ⟨_, rfl, K⟩
      · have K := K.2 c_4
        refine JW.aload_n dX3_number_2_39 rfl ?_
        refine JW.iconst dX3_number_2_40 rfl ?_
        refine JW.mcall (As := [vI 2]) dX3_number_2_41 vX3_fails rfl q1708 (ctX3_fails b (sS (sS (sS (sS (sS (sS (sS s 7 k7) 8 k8) 9 k9) 10 k10) 11 k11) 12 k12) 13 k13) 2) (Nat.le_of_ble_eq_true rfl) rfl (Nat.le_of_ble_eq_true rfl) ?_
        rintro _ _ ⟨rfl, rfl⟩
        refine JW.steq (s2 := sS (sS (sS (sS (sS (sS (sS s 7 k7) 8 k8) 9 k9) 10 k10) 11 k11) 12 (if k12 = 0 then (2 : Int) else k12)) 13 (if k12 = 0 then k9 else k13)) (by simp only [sA_A, sS_S, sA_S, sA_lt, sS_lt, Nat.reduceLT, id_eq] <;> rfl) ?_
        refine JW.iload_n dX3_number_2_44 rfl ?_
        exact JW.ireturn dX3_number_2_45 rfl rfl ⟨_, rfl, K⟩
    · have K := K.2 c_2
      refine JW.aload_n dX3_number_2_17 rfl ?_
      refine JW.iconst dX3_number_2_18 rfl ?_
      refine JW.mcall (As := [vI 1]) dX3_number_2_19 vX3_fails rfl q1708 (ctX3_fails b (sS (sS (sS (sS (sS (sS (sS s 7 k7) 8 k8) 9 k9) 10 k10) 11 k11) 12 k12) 13 k13) 1) (Nat.le_of_ble_eq_true rfl) rfl (Nat.le_of_ble_eq_true rfl) ?_
      rintro _ _ ⟨rfl, rfl⟩
      refine JW.steq (s2 := sS (sS (sS (sS (sS (sS (sS s 7 k7) 8 k8) 9 k9) 10 k10) 11 k11) 12 (if k12 = 0 then (1 : Int) else k12)) 13 (if k12 = 0 then k9 else k13)) (by simp only [sA_A, sS_S, sA_S, sA_lt, sS_lt, Nat.reduceLT, id_eq] <;> rfl) ?_
      refine JW.iload_n dX3_number_2_22 rfl ?_
      exact JW.ireturn dX3_number_2_23 rfl rfl ⟨_, rfl, K⟩
  · have K := K.2 c_1
    refine JW.iload_n dX3_number_2_7 rfl ?_
    exact JW.ireturn dX3_number_2_8 rfl rfl ⟨_, rfl, K⟩
def QX3_number_2 (s : MS) (a1 : Int) (a2 : Int) : Option AV → MS → Prop := fun v s' => ∃ (k7 : Int) (k8 : Int) (k9 : Int) (k10 : Int) (k11 : Int) (k12 : Int) (k13 : Int) (r : Int), v = some (vI r) ∧ s' = sS (sS (sS (sS (sS (sS (sS s 7 k7) 8 k8) 9 k9) 10 k10) 11 k11) 12 k12) 13 k13 ∧ (numQ (s.2 4) (s.1 6) a1 a2 (s.1 7) (s.1 8) (s.1 9) (s.1 10) (s.1 11) (s.1 12) (s.1 13) k7 k8 k9 k10 k11 k12 k13 r)
theorem vX3_number_2_1 (s : MS) (a1 : Int) (a2 : Int) (hp : 0 ≤ (s.1 7) ∧ (s.1 7) ≤ (s.1 6) ∧ (s.1 6) ≤ 800) (c_1 : (s.1 12) = 0) (c_2 : (s.1 8) = 2) (c_4 : ¬ (bI (a1 ≤ (s.1 10) ∧ (s.1 10) ≤ a2)) = 0) : (0 ≤ (s.1 7) ∧ (s.1 7) ≤ (s.1 6) ∧ (s.1 6) ≤ 800) := by
  (try simp only [bI_0, bI_n, Classical.not_not] at *)
  (try unfold lex3)
  (try simp only [bI_0, bI_n, Classical.not_not] at *)
  (try simp (disch := omega) only [i32_id] at *)
  first | done | omega | ((repeat' (with_reducible apply And.intro)) <;> first | assumption | rfl | omega | (exact numQ_0 hp.1 hp.2.1 (by omega) rfl) | (exact numQ_1 hp.1 hp.2.1 (by omega) (by omega) rfl rfl rfl) | (exact numQ_2 hp.1 hp.2.1 (by omega) (by omega) (by assumption) rfl rfl rfl) | (exact numQ_y hp.1 hp.2.1 (by omega) (by omega) (by assumption)) | grind [upI])
theorem vX3_number_2_2 (s : MS) (a1 : Int) (a2 : Int) (hp : 0 ≤ (s.1 7) ∧ (s.1 7) ≤ (s.1 6) ∧ (s.1 6) ≤ 800) (c_1 : (s.1 12) = 0) (c_2 : (s.1 8) = 2) (c_4 : ¬ (bI (a1 ≤ (s.1 10) ∧ (s.1 10) ≤ a2)) = 0) (o_5 : (0 ≤ (s.1 7) ∧ (s.1 7) ≤ (s.1 6) ∧ (s.1 6) ≤ 800)) : numQ (s.2 4) (s.1 6) a1 a2 (s.1 7) (s.1 8) (s.1 9) (s.1 10) (s.1 11) (s.1 12) (s.1 13) (enx (s.2 4) (s.1 6) (s.1 7)) (knd (s.2 4) (s.1 6) (s.1 7)) (plc (s.2 4) (s.1 6) (s.1 7)) (vlu (s.2 4) (s.1 6) (s.1 7)) (wrd (s.2 4) (s.1 6) (s.1 7)) (s.1 12) (s.1 13) (s.1 10) := by
  (try simp only [bI_0, bI_n, Classical.not_not] at *)
  (try unfold lex3)
  (try simp only [bI_0, bI_n, Classical.not_not] at *)
  (try simp (disch := omega) only [i32_id] at *)
  first | done | omega | ((repeat' (with_reducible apply And.intro)) <;> first | assumption | rfl | omega | (exact numQ_0 hp.1 hp.2.1 (by omega) rfl) | (exact numQ_1 hp.1 hp.2.1 (by omega) (by omega) rfl rfl rfl) | (exact numQ_2 hp.1 hp.2.1 (by omega) (by omega) (by assumption) rfl rfl rfl) | (exact numQ_y hp.1 hp.2.1 (by omega) (by omega) (by assumption)) | grind [upI])
theorem vX3_number_2_3 (s : MS) (a1 : Int) (a2 : Int) (hp : 0 ≤ (s.1 7) ∧ (s.1 7) ≤ (s.1 6) ∧ (s.1 6) ≤ 800) (c_1 : (s.1 12) = 0) (c_2 : (s.1 8) = 2) (c_4 : (bI (a1 ≤ (s.1 10) ∧ (s.1 10) ≤ a2)) = 0) : numQ (s.2 4) (s.1 6) a1 a2 (s.1 7) (s.1 8) (s.1 9) (s.1 10) (s.1 11) (s.1 12) (s.1 13) (s.1 7) (s.1 8) (s.1 9) (s.1 10) (s.1 11) (if (s.1 12) = 0 then (2 : Int) else (s.1 12)) (if (s.1 12) = 0 then (s.1 9) else (s.1 13)) a1 := by
  (try simp only [bI_0, bI_n, Classical.not_not] at *)
  (try unfold lex3)
  (try simp only [bI_0, bI_n, Classical.not_not] at *)
  (try simp (disch := omega) only [i32_id] at *)
  first | done | omega | ((repeat' (with_reducible apply And.intro)) <;> first | assumption | rfl | omega | (exact numQ_0 hp.1 hp.2.1 (by omega) rfl) | (exact numQ_1 hp.1 hp.2.1 (by omega) (by omega) rfl rfl rfl) | (exact numQ_2 hp.1 hp.2.1 (by omega) (by omega) (by assumption) rfl rfl rfl) | (exact numQ_y hp.1 hp.2.1 (by omega) (by omega) (by assumption)) | grind [upI])
theorem vX3_number_2_4 (s : MS) (a1 : Int) (a2 : Int) (hp : 0 ≤ (s.1 7) ∧ (s.1 7) ≤ (s.1 6) ∧ (s.1 6) ≤ 800) (c_1 : (s.1 12) = 0) (c_2 : ¬ (s.1 8) = 2) : numQ (s.2 4) (s.1 6) a1 a2 (s.1 7) (s.1 8) (s.1 9) (s.1 10) (s.1 11) (s.1 12) (s.1 13) (s.1 7) (s.1 8) (s.1 9) (s.1 10) (s.1 11) (if (s.1 12) = 0 then (1 : Int) else (s.1 12)) (if (s.1 12) = 0 then (s.1 9) else (s.1 13)) a1 := by
  (try simp only [bI_0, bI_n, Classical.not_not] at *)
  (try unfold lex3)
  (try simp only [bI_0, bI_n, Classical.not_not] at *)
  (try simp (disch := omega) only [i32_id] at *)
  first | done | omega | ((repeat' (with_reducible apply And.intro)) <;> first | assumption | rfl | omega | (exact numQ_0 hp.1 hp.2.1 (by omega) rfl) | (exact numQ_1 hp.1 hp.2.1 (by omega) (by omega) rfl rfl rfl) | (exact numQ_2 hp.1 hp.2.1 (by omega) (by omega) (by assumption) rfl rfl rfl) | (exact numQ_y hp.1 hp.2.1 (by omega) (by omega) (by assumption)) | grind [upI])
theorem vX3_number_2_5 (s : MS) (a1 : Int) (a2 : Int) (hp : 0 ≤ (s.1 7) ∧ (s.1 7) ≤ (s.1 6) ∧ (s.1 6) ≤ 800) (c_1 : ¬ (s.1 12) = 0) : numQ (s.2 4) (s.1 6) a1 a2 (s.1 7) (s.1 8) (s.1 9) (s.1 10) (s.1 11) (s.1 12) (s.1 13) (s.1 7) (s.1 8) (s.1 9) (s.1 10) (s.1 11) (s.1 12) (s.1 13) a1 := by
  (try simp only [bI_0, bI_n, Classical.not_not] at *)
  (try unfold lex3)
  (try simp only [bI_0, bI_n, Classical.not_not] at *)
  (try simp (disch := omega) only [i32_id] at *)
  first | done | omega | ((repeat' (with_reducible apply And.intro)) <;> first | assumption | rfl | omega | (exact numQ_0 hp.1 hp.2.1 (by omega) rfl) | (exact numQ_1 hp.1 hp.2.1 (by omega) (by omega) rfl rfl rfl) | (exact numQ_2 hp.1 hp.2.1 (by omega) (by omega) (by assumption) rfl rfl rfl) | (exact numQ_y hp.1 hp.2.1 (by omega) (by omega) (by assumption)) | grind [upI])
theorem ctX3_number_2 (b : AH) (s : MS) (a1 : Int) (a2 : Int) (hp : 0 ≤ (s.1 7) ∧ (s.1 7) ≤ (s.1 6) ∧ (s.1 6) ≤ 800) : MC mX3_number_2 4 b s [vI a1, vI a2] (QX3_number_2 s a1 a2) := by
  refine MC.of (by decide) rfl (Nat.le_of_ble_eq_true rfl) (JW.steq (s2 := sS (sS (sS (sS (sS (sS (sS s 7 (s.1 7)) 8 (s.1 8)) 9 (s.1 9)) 10 (s.1 10)) 11 (s.1 11)) 12 (s.1 12)) 13 (s.1 13)) (by simp only [sA_id, sS_id]) ?_)
  refine bX3_number_2_0 b s a1 a2 (s.1 7) (s.1 8) (s.1 9) (s.1 10) (s.1 11) (s.1 12) (s.1 13) ?_
  refine ⟨fun c_1 => ?_, fun c_1 => ?_⟩
  · refine ⟨fun c_2 => ?_, fun c_2 => ?_⟩
    · refine ⟨fun c_4 => ?_, fun c_4 => ?_⟩
      · have o_5 : (0 ≤ (s.1 7) ∧ (s.1 7) ≤ (s.1 6) ∧ (s.1 6) ≤ 800) := (vX3_number_2_1 s a1 a2 hp c_1 c_2 c_4)
        refine ⟨o_5, ?_⟩
        exact ⟨(enx (s.2 4) (s.1 6) (s.1 7)), (knd (s.2 4) (s.1 6) (s.1 7)), (plc (s.2 4) (s.1 6) (s.1 7)), (vlu (s.2 4) (s.1 6) (s.1 7)), (wrd (s.2 4) (s.1 6) (s.1 7)), (s.1 12), (s.1 13), (s.1 10), rfl, rfl, (vX3_number_2_2 s a1 a2 hp c_1 c_2 c_4 o_5)⟩
      · exact ⟨(s.1 7), (s.1 8), (s.1 9), (s.1 10), (s.1 11), (if (s.1 12) = 0 then (2 : Int) else (s.1 12)), (if (s.1 12) = 0 then (s.1 9) else (s.1 13)), a1, rfl, rfl, (vX3_number_2_3 s a1 a2 hp c_1 c_2 c_4)⟩
    · exact ⟨(s.1 7), (s.1 8), (s.1 9), (s.1 10), (s.1 11), (if (s.1 12) = 0 then (1 : Int) else (s.1 12)), (if (s.1 12) = 0 then (s.1 9) else (s.1 13)), a1, rfl, rfl, (vX3_number_2_4 s a1 a2 hp c_1 c_2)⟩
  · exact ⟨(s.1 7), (s.1 8), (s.1 9), (s.1 10), (s.1 11), (s.1 12), (s.1 13), a1, rfl, rfl, (vX3_number_2_5 s a1 a2 hp c_1)⟩
