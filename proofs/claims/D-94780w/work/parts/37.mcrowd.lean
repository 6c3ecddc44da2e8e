/-! contracts of the reference: isTold isOf crowds goes crowdsBehind isCrowd sureAt -/
set_option maxRecDepth 100000
def HX3_isTold_0 (Q : Option AV → MS → Prop) (b : AH) (s : MS) (x1 : Int) : Prop := MW mX3_isTold 1 Q b 0 [(0, vR 351), (1, vI x1)] [] s
def HX3_isTold_2 (Q : Option AV → MS → Prop) (b : AH) (s : MS) (x1 : Int) (x2 : Int) : Prop := MW mX3_isTold 1 Q b 2 [(0, vR 351), (1, vI x1), (2, vI x2)] [] s
theorem bX3_isTold_0 {Q : Option AV → MS → Prop} (b : AH) (s : MS) (x1 : Int) (K : HX3_isTold_2 Q b s x1 0) : HX3_isTold_0 Q b s x1 := by
  refine JW.iconst dX3_isTold_0 rfl ?_
  refine JW.istore_n (ls' := [(0, vR 351), (1, vI x1), (2, vI 0)]) dX3_isTold_1 (Nat.le_of_ble_eq_true rfl) rfl ?_
  exact JW.pick [0, 1, 2] rfl K
theorem bX3_isTold_2 {Q : Option AV → MS → Prop} (b : AH) (s : MS) (x1 : Int) (x2 : Int) (K : ((s.2 6 5) ≤ x2 → Q (some (vI 0)) s) ∧ (¬ (s.2 6 5) ≤ x2 → (0 ≤ x2 ∧ x2 < 100) ∧ ((¬ (s.2 9 x2) = x1 → HX3_isTold_2 Q b s x1 (i32 (x2 + 1))) ∧ ((s.2 9 x2) = x1 → Q (some (vI 1)) s)))) : HX3_isTold_2 Q b s x1 x2 := by
  refine JW.iload_n dX3_isTold_2 rfl ?_
  refine JW.aload_n dX3_isTold_3 rfl ?_
  refine JW.mget (v := vR 358) dX3_isTold_4 fX3_34 rfl ?_
  refine JW.iconst dX3_isTold_7 rfl ?_
  refine JW.mald 6 (x := (s.2 6 5)) dX3_isTold_8 (Nat.le_of_ble_eq_true rfl) rfl (by decide) (by decide) rfl ?_
  refine JW.icmp_ge (tgt := 30) dX3_isTold_9 rfl (fun c_1 => ?_) (fun c_1 => ?_)
  · have K := K.1 c_1
    refine JW.iconst dX3_isTold_30 rfl ?_
    exact JW.zreturn dX3_isTold_31 rfl (Or.inl rfl) ⟨_, rfl, K⟩
  · have K := K.2 c_1
    refine JW.aload_n dX3_isTold_12 rfl ?_
    refine JW.mget (v := vR 361) dX3_isTold_13 fX3_43 rfl ?_
    refine JW.iload_n dX3_isTold_16 rfl ?_
    obtain ⟨o_2, K⟩ := K
    refine JW.mald 9 (x := (s.2 9 x2)) dX3_isTold_17 (Nat.le_of_ble_eq_true rfl) rfl o_2.1 o_2.2 rfl ?_
    refine JW.iload_n dX3_isTold_18 rfl ?_
    refine JW.icmp_ne (tgt := 24) dX3_isTold_19 rfl (fun c_3 => ?_) (fun c_3 => ?_)
    · have K := K.1 c_3
      refine JW.iinc (ls' := [(0, vR 351), (1, vI x1), (2, vI (i32 (x2 + 1)))]) dX3_isTold_24 (Nat.le_of_ble_eq_true rfl) rfl rfl ?_
      refine JW.goto (tgt := 2) dX3_isTold_27 rfl ?_
      exact JW.pick [0, 1, 2] rfl K
    · have K := K.2 c_3
      refine JW.iconst dX3_isTold_22 rfl ?_
      exact JW.zreturn dX3_isTold_23 rfl (Or.inr rfl) ⟨_, rfl, K⟩
def QX3_isTold (s : MS) (a1 : Int) : Option AV → MS → Prop := fun v s' => v = some (vI (bC (toldP ((s.2 6) 5) (s.2 9) a1))) ∧ s' = s
theorem vX3_isTold_1 (s : MS) (a1 : Int) (hp : tOK (s.2 6)) (x1 : Int) (x2 : Int) (hI : x1 = a1 ∧ (0 ≤ x2 ∧ x2 ≤ s.2 6 5) ∧ ∀ k : Int, 0 ≤ k → k < x2 → s.2 9 k ≠ a1) (c_1 : (s.2 6 5) ≤ x2) : 0 = (bC (toldP ((s.2 6) 5) (s.2 9) a1)) := by
  have hT := tOK_T hp
  (try rw [hI.1] at *)
  (try unfold lex3)
  (try simp only [bI_0, bI_n, Classical.not_not] at *)
  (try simp (disch := omega) only [i32_id] at *)
  first | done | omega | ((repeat' (with_reducible apply And.intro)) <;> first | assumption | rfl | omega | (rw [bC_t (show toldP _ _ _ from ⟨x2, by omega, by omega, by assumption⟩)]) | (rw [bC_f (fun h => by obtain ⟨k, a, b, c⟩ := h; exact hI.2.2 k a (by omega) c)]) | (intro k h0 h1; by_cases e : k = x2; (focus (rw [e]; assumption)); (focus (exact hI.2.2 k h0 (by omega)))) | (intro k h0 h1; omega) | grind [upI])
theorem vX3_isTold_2 (s : MS) (a1 : Int) (hp : tOK (s.2 6)) (x1 : Int) (x2 : Int) (hI : x1 = a1 ∧ (0 ≤ x2 ∧ x2 ≤ s.2 6 5) ∧ ∀ k : Int, 0 ≤ k → k < x2 → s.2 9 k ≠ a1) (c_1 : ¬ (s.2 6 5) ≤ x2) : (0 ≤ x2 ∧ x2 < 100) := by
  have hT := tOK_T hp
  (try rw [hI.1] at *)
  (try unfold lex3)
  (try simp only [bI_0, bI_n, Classical.not_not] at *)
  (try simp (disch := omega) only [i32_id] at *)
  first | done | omega | ((repeat' (with_reducible apply And.intro)) <;> first | assumption | rfl | omega | (rw [bC_t (show toldP _ _ _ from ⟨x2, by omega, by omega, by assumption⟩)]) | (rw [bC_f (fun h => by obtain ⟨k, a, b, c⟩ := h; exact hI.2.2 k a (by omega) c)]) | (intro k h0 h1; by_cases e : k = x2; (focus (rw [e]; assumption)); (focus (exact hI.2.2 k h0 (by omega)))) | (intro k h0 h1; omega) | grind [upI])
theorem vX3_isTold_3 (s : MS) (a1 : Int) (hp : tOK (s.2 6)) (x1 : Int) (x2 : Int) (hI : x1 = a1 ∧ (0 ≤ x2 ∧ x2 ≤ s.2 6 5) ∧ ∀ k : Int, 0 ≤ k → k < x2 → s.2 9 k ≠ a1) (c_1 : ¬ (s.2 6 5) ≤ x2) (o_2 : (0 ≤ x2 ∧ x2 < 100)) (c_3 : ¬ (s.2 9 x2) = x1) : x1 = a1 ∧ (0 ≤ (i32 (x2 + 1)) ∧ (i32 (x2 + 1)) ≤ s.2 6 5) ∧ ∀ k : Int, 0 ≤ k → k < (i32 (x2 + 1)) → s.2 9 k ≠ a1 := by
  have hT := tOK_T hp
  (try rw [hI.1] at *)
  (try unfold lex3)
  (try simp only [bI_0, bI_n, Classical.not_not] at *)
  (try simp (disch := omega) only [i32_id] at *)
  first | done | omega | ((repeat' (with_reducible apply And.intro)) <;> first | assumption | rfl | omega | (rw [bC_t (show toldP _ _ _ from ⟨x2, by omega, by omega, by assumption⟩)]) | (rw [bC_f (fun h => by obtain ⟨k, a, b, c⟩ := h; exact hI.2.2 k a (by omega) c)]) | (intro k h0 h1; by_cases e : k = x2; (focus (rw [e]; assumption)); (focus (exact hI.2.2 k h0 (by omega)))) | (intro k h0 h1; omega) | grind [upI])
theorem vX3_isTold_4 (s : MS) (a1 : Int) (hp : tOK (s.2 6)) (x1 : Int) (x2 : Int) (hI : x1 = a1 ∧ (0 ≤ x2 ∧ x2 ≤ s.2 6 5) ∧ ∀ k : Int, 0 ≤ k → k < x2 → s.2 9 k ≠ a1) (c_1 : ¬ (s.2 6 5) ≤ x2) (o_2 : (0 ≤ x2 ∧ x2 < 100)) (c_3 : ¬ (s.2 9 x2) = x1) : lex3 0 0 ((s.2 6 5 - (i32 (x2 + 1))).toNat) 0 0 ((s.2 6 5 - x2).toNat) := by
  have hT := tOK_T hp
  (try rw [hI.1] at *)
  (try unfold lex3)
  (try simp only [bI_0, bI_n, Classical.not_not] at *)
  (try simp (disch := omega) only [i32_id] at *)
  first | done | omega | ((repeat' (with_reducible apply And.intro)) <;> first | assumption | rfl | omega | (rw [bC_t (show toldP _ _ _ from ⟨x2, by omega, by omega, by assumption⟩)]) | (rw [bC_f (fun h => by obtain ⟨k, a, b, c⟩ := h; exact hI.2.2 k a (by omega) c)]) | (intro k h0 h1; by_cases e : k = x2; (focus (rw [e]; assumption)); (focus (exact hI.2.2 k h0 (by omega)))) | (intro k h0 h1; omega) | grind [upI])
theorem vX3_isTold_5 (s : MS) (a1 : Int) (hp : tOK (s.2 6)) (x1 : Int) (x2 : Int) (hI : x1 = a1 ∧ (0 ≤ x2 ∧ x2 ≤ s.2 6 5) ∧ ∀ k : Int, 0 ≤ k → k < x2 → s.2 9 k ≠ a1) (c_1 : ¬ (s.2 6 5) ≤ x2) (o_2 : (0 ≤ x2 ∧ x2 < 100)) (c_3 : (s.2 9 x2) = x1) : 1 = (bC (toldP ((s.2 6) 5) (s.2 9) a1)) := by
  have hT := tOK_T hp
  (try rw [hI.1] at *)
  (try unfold lex3)
  (try simp only [bI_0, bI_n, Classical.not_not] at *)
  (try simp (disch := omega) only [i32_id] at *)
  first | done | omega | ((repeat' (with_reducible apply And.intro)) <;> first | assumption | rfl | omega | (rw [bC_t (show toldP _ _ _ from ⟨x2, by omega, by omega, by assumption⟩)]) | (rw [bC_f (fun h => by obtain ⟨k, a, b, c⟩ := h; exact hI.2.2 k a (by omega) c)]) | (intro k h0 h1; by_cases e : k = x2; (focus (rw [e]; assumption)); (focus (exact hI.2.2 k h0 (by omega)))) | (intro k h0 h1; omega) | grind [upI])
theorem vX3_isTold_6 (s : MS) (a1 : Int) (hp : tOK (s.2 6)) : a1 = a1 ∧ (0 ≤ (0 : Int) ∧ (0 : Int) ≤ s.2 6 5) ∧ ∀ k : Int, 0 ≤ k → k < (0 : Int) → s.2 9 k ≠ a1 := by
  have hT := tOK_T hp
  (try rw [hI.1] at *)
  (try unfold lex3)
  (try simp only [bI_0, bI_n, Classical.not_not] at *)
  (try simp (disch := omega) only [i32_id] at *)
  first | done | omega | ((repeat' (with_reducible apply And.intro)) <;> first | assumption | rfl | omega | (rw [bC_t (show toldP _ _ _ from ⟨x2, by omega, by omega, by assumption⟩)]) | (rw [bC_f (fun h => by obtain ⟨k, a, b, c⟩ := h; exact hI.2.2 k a (by omega) c)]) | (intro k h0 h1; by_cases e : k = x2; (focus (rw [e]; assumption)); (focus (exact hI.2.2 k h0 (by omega)))) | (intro k h0 h1; omega) | grind [upI])
theorem allX3_isTold (b : AH) (s : MS) (a1 : Int) (hp : tOK (s.2 6)) : ∀ m1 m2 m3 : Nat, (∀ (x1 : Int) (x2 : Int), m1 = 0 → m2 = 0 → m3 = ((s.2 6 5 - x2).toNat) → (x1 = a1 ∧ (0 ≤ x2 ∧ x2 ≤ s.2 6 5) ∧ ∀ k : Int, 0 ≤ k → k < x2 → s.2 9 k ≠ a1) → HX3_isTold_2 (QX3_isTold s a1) b s x1 x2) := by
  refine lex3_ind ?_
  intro m1 m2 m3 ih
  rintro x1 x2 rfl rfl rfl hI
  refine bX3_isTold_2 b s x1 x2 ?_
  refine ⟨fun c_1 => ?_, fun c_1 => ?_⟩
  · exact ⟨(rI_c (vX3_isTold_1 s a1 hp x1 x2 hI c_1)), rfl⟩
  · have o_2 : (0 ≤ x2 ∧ x2 < 100) := (vX3_isTold_2 s a1 hp x1 x2 hI c_1)
    refine ⟨o_2, ?_⟩
    refine ⟨fun c_3 => ?_, fun c_3 => ?_⟩
    · exact (ih _ _ _ (vX3_isTold_4 s a1 hp x1 x2 hI c_1 o_2 c_3)) x1 (i32 (x2 + 1)) rfl rfl rfl (vX3_isTold_3 s a1 hp x1 x2 hI c_1 o_2 c_3)
    · exact ⟨(rI_c (vX3_isTold_5 s a1 hp x1 x2 hI c_1 o_2 c_3)), rfl⟩
theorem ctX3_isTold (b : AH) (s : MS) (a1 : Int) (hp : tOK (s.2 6)) : MC mX3_isTold 1 b s [vI a1] (QX3_isTold s a1) := by
  refine MC.of (by decide) rfl (Nat.le_of_ble_eq_true rfl) ?_
  refine bX3_isTold_0 b s a1 ?_
  exact (allX3_isTold b s a1 hp _ _ _) a1 0 rfl rfl rfl (vX3_isTold_6 s a1 hp)
def HX3_isOf_0 (Q : Option AV → MS → Prop) (b : AH) (s : MS) (x1 : Int) (x2 : Int) (f11 : Int → Int) (f12 : Int → Int) : Prop := MW mX3_isOf 3 Q b 0 [(0, vR 351), (1, vI x1), (2, vI x2)] [] (sA (sA s 11 f11) 12 f12)
def HX3_isOf_57 (Q : Option AV → MS → Prop) (b : AH) (s : MS) (x3 : Int) (f11 : Int → Int) (f12 : Int → Int) : Prop := MW mX3_isOf 3 Q b 57 [(0, vR 351), (3, vI x3)] [] (sA (sA s 11 f11) 12 f12)
theorem bX3_isOf_0 {Q : Option AV → MS → Prop} (b : AH) (s : MS) (x1 : Int) (x2 : Int) (f11 : Int → Int) (f12 : Int → Int) (K : (¬ x1 = 0 → (¬ x1 = 3 → (tOK (s.2 6) ∧ 0 ≤ x2 ∧ x2 ≤ 100000) ∧ ((∀ (f_4 : Int → Int), (ascOf (dig ((s.2 6) 0) ((s.2 6) 1) x2) f_4 ((s.2 6) 1)) → (¬ x1 = 1 → HX3_isOf_57 Q b s 1 (figs ((s.2 6) 0) ((s.2 6) 1) x2 f11) f_4) ∧ (x1 = 1 → (0 ≤ (i32 ((s.2 6 1) - 1)) ∧ (i32 ((s.2 6 1) - 1)) < 8) ∧ (((f_4 0) = (f_4 (i32 ((s.2 6 1) - 1))) → Q (some (vI 0)) (sA (sA s 11 (figs ((s.2 6) 0) ((s.2 6) 1) x2 f11)) 12 f_4)) ∧ (¬ (f_4 0) = (f_4 (i32 ((s.2 6 1) - 1))) → Q (some (vI 1)) (sA (sA s 11 (figs ((s.2 6) 0) ((s.2 6) 1) x2 f11)) 12 f_4))))))) ∧ (x1 = 3 → (tOK (s.2 6)) ∧ (((bC (toldP ((s.2 6) 5) (s.2 9) x2)) = 0 ∨ (bC (toldP ((s.2 6) 5) (s.2 9) x2)) = 1) ∧ Q (some (vI (bC (toldP ((s.2 6) 5) (s.2 9) x2)))) (sA (sA s 11 f11) 12 f12)))) ∧ (x1 = 0 → Q (some (vI 1)) (sA (sA s 11 f11) 12 f12))) : HX3_isOf_0 Q b s x1 x2 f11 f12 := by
  refine JW.iload_n dX3_isOf_0 rfl ?_
  refine JW.if_ne (tgt := 6) dX3_isOf_1 rfl (fun c_1 => ?_) (fun c_1 => ?_)
  · have K := K.1 c_1
    refine JW.iload_n dX3_isOf_6 rfl ?_
    refine JW.iconst dX3_isOf_7 rfl ?_
    refine JW.icmp_ne (tgt := 17) dX3_isOf_8 rfl (fun c_2 => ?_) (fun c_2 => ?_)
    · have K := K.1 c_2
      refine JW.aload_n dX3_isOf_17 rfl ?_
      refine JW.iload_n dX3_isOf_18 rfl ?_
      obtain ⟨o_3, K⟩ := K
      refine JW.mcall (As := [vI x2]) dX3_isOf_19 vX3_sorts rfl q1830 (ctX3_sorts b (sA (sA s 11 f11) 12 f12) x2 o_3) (Nat.le_of_ble_eq_true rfl) rfl (Nat.le_of_ble_eq_true rfl) ?_
      rintro _ _ ⟨f_4, rfl, rfl, q_5⟩
      refine JW.steq (s2 := sA (sA s 11 (figs ((s.2 6) 0) ((s.2 6) 1) x2 f11)) 12 f_4) (by simp only [sA_A, sS_S, sA_S, sA_lt, sS_lt, Nat.reduceLT, id_eq] <;> rfl) ?_
      replace K := K f_4 q_5
      refine JW.iload_n dX3_isOf_22 rfl ?_
      refine JW.iconst dX3_isOf_23 rfl ?_
      refine JW.icmp_ne (tgt := 55) dX3_isOf_24 rfl (fun c_6 => ?_) (fun c_6 => ?_)
      · have K := K.1 c_6
        refine JW.iconst dX3_isOf_55 rfl ?_
        refine JW.istore_n (ls' := [(0, vR 351), (1, vI x1), (2, vI x2), (3, vI 1)]) dX3_isOf_56 (Nat.le_of_ble_eq_true rfl) rfl ?_
        exact JW.pick [0, 3] rfl K
      · have K := K.2 c_6
        refine JW.aload_n dX3_isOf_27 rfl ?_
        refine JW.mget (v := vR 364) dX3_isOf_28 fX3_53 rfl ?_
        refine JW.iconst dX3_isOf_31 rfl ?_
        refine JW.mald 12 (x := (f_4 0)) dX3_isOf_32 (Nat.le_of_ble_eq_true rfl) rfl (by decide) (by decide) rfl ?_
        refine JW.aload_n dX3_isOf_33 rfl ?_
        refine JW.mget (v := vR 364) dX3_isOf_34 fX3_53 rfl ?_
        refine JW.aload_n dX3_isOf_37 rfl ?_
        refine JW.mget (v := vR 358) dX3_isOf_38 fX3_34 rfl ?_
        refine JW.iconst dX3_isOf_41 rfl ?_
        refine JW.mald 6 (x := (s.2 6 1)) dX3_isOf_42 (Nat.le_of_ble_eq_true rfl) rfl (by decide) (by decide) rfl ?_
        refine JW.iconst dX3_isOf_43 rfl ?_
        refine JW.isub dX3_isOf_44 ?_
        obtain ⟨o_7, K⟩ := K
        refine JW.mald 12 (x := (f_4 (i32 ((s.2 6 1) - 1)))) dX3_isOf_45 (Nat.le_of_ble_eq_true rfl) rfl o_7.1 o_7.2 rfl ?_
        refine JW.icmp_eq (tgt := 53) dX3_isOf_46 rfl (fun c_8 => ?_) (fun c_8 => ?_)
        · have K := K.1 c_8
          refine JW.iconst dX3_isOf_53 rfl ?_
          exact JW.zreturn dX3_isOf_54 rfl (Or.inl rfl) ⟨_, rfl, K⟩
        · have K := K.2 c_8
          refine JW.iconst dX3_isOf_49 rfl ?_
          refine JW.goto (tgt := 54) dX3_isOf_50 rfl ?_
          exact JW.zreturn dX3_isOf_54 rfl (Or.inr rfl) ⟨_, rfl, K⟩
    · have K := K.2 c_2
      refine JW.aload_n dX3_isOf_11 rfl ?_
      refine JW.iload_n dX3_isOf_12 rfl ?_
      obtain ⟨o_9, K⟩ := K
      refine JW.mcall (As := [vI x2]) dX3_isOf_13 vX3_isTold rfl q2001 (ctX3_isTold b (sA (sA s 11 f11) 12 f12) x2 o_9) (Nat.le_of_ble_eq_true rfl) rfl (Nat.le_of_ble_eq_true rfl) ?_
      rintro _ _ ⟨rfl, eq_10⟩
      refine JW.steq (s2 := sA (sA s 11 f11) 12 f12) eq_10 ?_
      exact JW.zreturn dX3_isOf_16 rfl K.1 ⟨_, rfl, K.2⟩
  · have K := K.2 c_1
    refine JW.iconst dX3_isOf_4 rfl ?_
    exact JW.zreturn dX3_isOf_5 rfl (Or.inr rfl) ⟨_, rfl, K⟩
theorem bX3_isOf_57 {Q : Option AV → MS → Prop} (b : AH) (s : MS) (x3 : Int) (f11 : Int → Int) (f12 : Int → Int) (K : ((s.2 6 1) ≤ x3 → Q (some (vI 1)) (sA (sA s 11 f11) 12 f12)) ∧ (¬ (s.2 6 1) ≤ x3 → (0 ≤ x3 ∧ x3 < 8) ∧ ((0 ≤ (i32 (x3 - 1)) ∧ (i32 (x3 - 1)) < 8) ∧ ((¬ (f12 x3) = (f12 (i32 (x3 - 1))) → HX3_isOf_57 Q b s (i32 (x3 + 1)) f11 f12) ∧ ((f12 x3) = (f12 (i32 (x3 - 1))) → Q (some (vI 0)) (sA (sA s 11 f11) 12 f12)))))) : HX3_isOf_57 Q b s x3 f11 f12 := by
  refine JW.iload_n dX3_isOf_57 rfl ?_
  refine JW.aload_n dX3_isOf_58 rfl ?_
  refine JW.mget (v := vR 358) dX3_isOf_59 fX3_34 rfl ?_
  refine JW.iconst dX3_isOf_62 rfl ?_
  refine JW.mald 6 (x := (s.2 6 1)) dX3_isOf_63 (Nat.le_of_ble_eq_true rfl) rfl (by decide) (by decide) rfl ?_
  refine JW.icmp_ge (tgt := 92) dX3_isOf_64 rfl (fun c_1 => ?_) (fun c_1 => ?_)
  · have K := K.1 c_1
    refine JW.iconst dX3_isOf_92 rfl ?_
    exact JW.zreturn dX3_isOf_93 rfl (Or.inr rfl) ⟨_, rfl, K⟩
  · have K := K.2 c_1
    refine JW.aload_n dX3_isOf_67 rfl ?_
    refine JW.mget (v := vR 364) dX3_isOf_68 fX3_53 rfl ?_
    refine JW.iload_n dX3_isOf_71 rfl ?_
    obtain ⟨o_2, K⟩ := K
    refine JW.mald 12 (x := (f12 x3)) dX3_isOf_72 (Nat.le_of_ble_eq_true rfl) rfl o_2.1 o_2.2 rfl ?_
    refine JW.aload_n dX3_isOf_73 rfl ?_
    refine JW.mget (v := vR 364) dX3_isOf_74 fX3_53 rfl ?_
    refine JW.iload_n dX3_isOf_77 rfl ?_
    refine JW.iconst dX3_isOf_78 rfl ?_
    refine JW.isub dX3_isOf_79 ?_
    obtain ⟨o_3, K⟩ := K
    refine JW.mald 12 (x := (f12 (i32 (x3 - 1)))) dX3_isOf_80 (Nat.le_of_ble_eq_true rfl) rfl o_3.1 o_3.2 rfl ?_
    refine JW.icmp_ne (tgt := 86) dX3_isOf_81 rfl (fun c_4 => ?_) (fun c_4 => ?_)
    · have K := K.1 c_4
      refine JW.iinc (ls' := [(0, vR 351), (3, vI (i32 (x3 + 1)))]) dX3_isOf_86 (Nat.le_of_ble_eq_true rfl) rfl rfl ?_
      refine JW.goto (tgt := 57) dX3_isOf_89 rfl ?_
      exact JW.pick [0, 3] rfl K
    · have K := K.2 c_4
      refine JW.iconst dX3_isOf_84 rfl ?_
      exact JW.zreturn dX3_isOf_85 rfl (Or.inl rfl) ⟨_, rfl, K⟩
def QX3_isOf (s : MS) (a1 : Int) (a2 : Int) : Option AV → MS → Prop := fun v s' => ∃ (f11 : Int → Int) (f12 : Int → Int), v = some (vI (bC (inC (s.2 6) (s.2 9) a1 a2))) ∧ s' = sA (sA s 11 f11) 12 f12
theorem vX3_isOf_1 (s : MS) (a1 : Int) (a2 : Int) (hp : tOK (s.2 6) ∧ 0 < (s.2 6) 2 ∧ 0 ≤ a2 ∧ a2 ≤ 100000 ∧ 0 ≤ a1 ∧ a1 ≤ 3) (x3 : Int) (f11 : Int → Int) (f12 : Int → Int) (hI : a1 = 2 ∧ ascOf (dig (s.2 6 0) (s.2 6 1) a2) f12 (s.2 6 1) ∧ (1 ≤ x3 ∧ x3 ≤ s.2 6 1) ∧ ∀ k : Int, 1 ≤ k → k < x3 → f12 k ≠ f12 (k - 1)) (c_1 : (s.2 6 1) ≤ x3) : 1 = (bC (inC (s.2 6) (s.2 9) a1 a2)) := by
  obtain ⟨ht, hn, h0, h1, h2, h3⟩ := hp
  have hL := tOK_L ht
  have hL1 := tOK_L1 ht hn
  (try have hq := ‹ascOf _ _ _›)
  (try have hq := hI.2.1)
  (try unfold lex3)
  (try simp only [bI_0, bI_n, Classical.not_not] at *)
  (try simp (disch := omega) only [i32_id] at *)
  first | done | omega | ((repeat' (with_reducible apply And.intro)) <;> first | assumption | rfl | omega | (exact bC_01 _) | (exact hq) | (exact (bC_t (inC_0 (by omega))).symm) | (exact bC_c (inC_3 (by omega)).symm) | (exact (bC_t ((inC_1 (by omega)).mpr (asc_two (by omega) hq c_8))).symm) | (exact (bC_f (fun h => asc_one hL1 hq c_8 ((inC_1 c_6).mp h))).symm) | (exact (bC_t ((inC_2 (by omega)).mpr (asc_dist (by omega) hq (fun k a b => hI.2.2.2 k a (by omega))))).symm) | (exact (bC_f (fun h => asc_twice hq hI.2.2.1.1 (by omega) c_4 ((inC_2 hI.1).mp h))).symm) | (intro k h4 h5; omega) | (intro k h4 h5; by_cases e : k = x3; (focus (rw [e]; assumption)); (focus (exact hI.2.2.2 k h4 (by omega)))) | grind [upI])
theorem vX3_isOf_2 (s : MS) (a1 : Int) (a2 : Int) (hp : tOK (s.2 6) ∧ 0 < (s.2 6) 2 ∧ 0 ≤ a2 ∧ a2 ≤ 100000 ∧ 0 ≤ a1 ∧ a1 ≤ 3) (x3 : Int) (f11 : Int → Int) (f12 : Int → Int) (hI : a1 = 2 ∧ ascOf (dig (s.2 6 0) (s.2 6 1) a2) f12 (s.2 6 1) ∧ (1 ≤ x3 ∧ x3 ≤ s.2 6 1) ∧ ∀ k : Int, 1 ≤ k → k < x3 → f12 k ≠ f12 (k - 1)) (c_1 : ¬ (s.2 6 1) ≤ x3) : (0 ≤ x3 ∧ x3 < 8) := by
  obtain ⟨ht, hn, h0, h1, h2, h3⟩ := hp
  have hL := tOK_L ht
  have hL1 := tOK_L1 ht hn
  (try have hq := ‹ascOf _ _ _›)
  (try have hq := hI.2.1)
  (try unfold lex3)
  (try simp only [bI_0, bI_n, Classical.not_not] at *)
  (try simp (disch := omega) only [i32_id] at *)
  first | done | omega | ((repeat' (with_reducible apply And.intro)) <;> first | assumption | rfl | omega | (exact bC_01 _) | (exact hq) | (exact (bC_t (inC_0 (by omega))).symm) | (exact bC_c (inC_3 (by omega)).symm) | (exact (bC_t ((inC_1 (by omega)).mpr (asc_two (by omega) hq c_8))).symm) | (exact (bC_f (fun h => asc_one hL1 hq c_8 ((inC_1 c_6).mp h))).symm) | (exact (bC_t ((inC_2 (by omega)).mpr (asc_dist (by omega) hq (fun k a b => hI.2.2.2 k a (by omega))))).symm) | (exact (bC_f (fun h => asc_twice hq hI.2.2.1.1 (by omega) c_4 ((inC_2 hI.1).mp h))).symm) | (intro k h4 h5; omega) | (intro k h4 h5; by_cases e : k = x3; (focus (rw [e]; assumption)); (focus (exact hI.2.2.2 k h4 (by omega)))) | grind [upI])
theorem vX3_isOf_3 (s : MS) (a1 : Int) (a2 : Int) (hp : tOK (s.2 6) ∧ 0 < (s.2 6) 2 ∧ 0 ≤ a2 ∧ a2 ≤ 100000 ∧ 0 ≤ a1 ∧ a1 ≤ 3) (x3 : Int) (f11 : Int → Int) (f12 : Int → Int) (hI : a1 = 2 ∧ ascOf (dig (s.2 6 0) (s.2 6 1) a2) f12 (s.2 6 1) ∧ (1 ≤ x3 ∧ x3 ≤ s.2 6 1) ∧ ∀ k : Int, 1 ≤ k → k < x3 → f12 k ≠ f12 (k - 1)) (c_1 : ¬ (s.2 6 1) ≤ x3) (o_2 : (0 ≤ x3 ∧ x3 < 8)) : (0 ≤ (i32 (x3 - 1)) ∧ (i32 (x3 - 1)) < 8) := by
  obtain ⟨ht, hn, h0, h1, h2, h3⟩ := hp
  have hL := tOK_L ht
  have hL1 := tOK_L1 ht hn
  (try have hq := ‹ascOf _ _ _›)
  (try have hq := hI.2.1)
  (try unfold lex3)
  (try simp only [bI_0, bI_n, Classical.not_not] at *)
  (try simp (disch := omega) only [i32_id] at *)
  first | done | omega | ((repeat' (with_reducible apply And.intro)) <;> first | assumption | rfl | omega | (exact bC_01 _) | (exact hq) | (exact (bC_t (inC_0 (by omega))).symm) | (exact bC_c (inC_3 (by omega)).symm) | (exact (bC_t ((inC_1 (by omega)).mpr (asc_two (by omega) hq c_8))).symm) | (exact (bC_f (fun h => asc_one hL1 hq c_8 ((inC_1 c_6).mp h))).symm) | (exact (bC_t ((inC_2 (by omega)).mpr (asc_dist (by omega) hq (fun k a b => hI.2.2.2 k a (by omega))))).symm) | (exact (bC_f (fun h => asc_twice hq hI.2.2.1.1 (by omega) c_4 ((inC_2 hI.1).mp h))).symm) | (intro k h4 h5; omega) | (intro k h4 h5; by_cases e : k = x3; (focus (rw [e]; assumption)); (focus (exact hI.2.2.2 k h4 (by omega)))) | grind [upI])
theorem vX3_isOf_4 (s : MS) (a1 : Int) (a2 : Int) (hp : tOK (s.2 6) ∧ 0 < (s.2 6) 2 ∧ 0 ≤ a2 ∧ a2 ≤ 100000 ∧ 0 ≤ a1 ∧ a1 ≤ 3) (x3 : Int) (f11 : Int → Int) (f12 : Int → Int) (hI : a1 = 2 ∧ ascOf (dig (s.2 6 0) (s.2 6 1) a2) f12 (s.2 6 1) ∧ (1 ≤ x3 ∧ x3 ≤ s.2 6 1) ∧ ∀ k : Int, 1 ≤ k → k < x3 → f12 k ≠ f12 (k - 1)) (c_1 : ¬ (s.2 6 1) ≤ x3) (o_2 : (0 ≤ x3 ∧ x3 < 8)) (o_3 : (0 ≤ (i32 (x3 - 1)) ∧ (i32 (x3 - 1)) < 8)) (c_4 : ¬ (f12 x3) = (f12 (i32 (x3 - 1)))) : a1 = 2 ∧ ascOf (dig (s.2 6 0) (s.2 6 1) a2) f12 (s.2 6 1) ∧ (1 ≤ (i32 (x3 + 1)) ∧ (i32 (x3 + 1)) ≤ s.2 6 1) ∧ ∀ k : Int, 1 ≤ k → k < (i32 (x3 + 1)) → f12 k ≠ f12 (k - 1) := by
  obtain ⟨ht, hn, h0, h1, h2, h3⟩ := hp
  have hL := tOK_L ht
  have hL1 := tOK_L1 ht hn
  (try have hq := ‹ascOf _ _ _›)
  (try have hq := hI.2.1)
  (try unfold lex3)
  (try simp only [bI_0, bI_n, Classical.not_not] at *)
  (try simp (disch := omega) only [i32_id] at *)
  first | done | omega | ((repeat' (with_reducible apply And.intro)) <;> first | assumption | rfl | omega | (exact bC_01 _) | (exact hq) | (exact (bC_t (inC_0 (by omega))).symm) | (exact bC_c (inC_3 (by omega)).symm) | (exact (bC_t ((inC_1 (by omega)).mpr (asc_two (by omega) hq c_8))).symm) | (exact (bC_f (fun h => asc_one hL1 hq c_8 ((inC_1 c_6).mp h))).symm) | (exact (bC_t ((inC_2 (by omega)).mpr (asc_dist (by omega) hq (fun k a b => hI.2.2.2 k a (by omega))))).symm) | (exact (bC_f (fun h => asc_twice hq hI.2.2.1.1 (by omega) c_4 ((inC_2 hI.1).mp h))).symm) | (intro k h4 h5; omega) | (intro k h4 h5; by_cases e : k = x3; (focus (rw [e]; assumption)); (focus (exact hI.2.2.2 k h4 (by omega)))) | grind [upI])
theorem vX3_isOf_5 (s : MS) (a1 : Int) (a2 : Int) (hp : tOK (s.2 6) ∧ 0 < (s.2 6) 2 ∧ 0 ≤ a2 ∧ a2 ≤ 100000 ∧ 0 ≤ a1 ∧ a1 ≤ 3) (x3 : Int) (f11 : Int → Int) (f12 : Int → Int) (hI : a1 = 2 ∧ ascOf (dig (s.2 6 0) (s.2 6 1) a2) f12 (s.2 6 1) ∧ (1 ≤ x3 ∧ x3 ≤ s.2 6 1) ∧ ∀ k : Int, 1 ≤ k → k < x3 → f12 k ≠ f12 (k - 1)) (c_1 : ¬ (s.2 6 1) ≤ x3) (o_2 : (0 ≤ x3 ∧ x3 < 8)) (o_3 : (0 ≤ (i32 (x3 - 1)) ∧ (i32 (x3 - 1)) < 8)) (c_4 : ¬ (f12 x3) = (f12 (i32 (x3 - 1)))) : lex3 0 0 ((s.2 6 1 - (i32 (x3 + 1))).toNat) 0 0 ((s.2 6 1 - x3).toNat) := by
  obtain ⟨ht, hn, h0, h1, h2, h3⟩ := hp
  have hL := tOK_L ht
  have hL1 := tOK_L1 ht hn
  (try have hq := ‹ascOf _ _ _›)
  (try have hq := hI.2.1)
  (try unfold lex3)
  (try simp only [bI_0, bI_n, Classical.not_not] at *)
  (try simp (disch := omega) only [i32_id] at *)
  first | done | omega | ((repeat' (with_reducible apply And.intro)) <;> first | assumption | rfl | omega | (exact bC_01 _) | (exact hq) | (exact (bC_t (inC_0 (by omega))).symm) | (exact bC_c (inC_3 (by omega)).symm) | (exact (bC_t ((inC_1 (by omega)).mpr (asc_two (by omega) hq c_8))).symm) | (exact (bC_f (fun h => asc_one hL1 hq c_8 ((inC_1 c_6).mp h))).symm) | (exact (bC_t ((inC_2 (by omega)).mpr (asc_dist (by omega) hq (fun k a b => hI.2.2.2 k a (by omega))))).symm) | (exact (bC_f (fun h => asc_twice hq hI.2.2.1.1 (by omega) c_4 ((inC_2 hI.1).mp h))).symm) | (intro k h4 h5; omega) | (intro k h4 h5; by_cases e : k = x3; (focus (rw [e]; assumption)); (focus (exact hI.2.2.2 k h4 (by omega)))) | grind [upI])
theorem vX3_isOf_6 (s : MS) (a1 : Int) (a2 : Int) (hp : tOK (s.2 6) ∧ 0 < (s.2 6) 2 ∧ 0 ≤ a2 ∧ a2 ≤ 100000 ∧ 0 ≤ a1 ∧ a1 ≤ 3) (x3 : Int) (f11 : Int → Int) (f12 : Int → Int) (hI : a1 = 2 ∧ ascOf (dig (s.2 6 0) (s.2 6 1) a2) f12 (s.2 6 1) ∧ (1 ≤ x3 ∧ x3 ≤ s.2 6 1) ∧ ∀ k : Int, 1 ≤ k → k < x3 → f12 k ≠ f12 (k - 1)) (c_1 : ¬ (s.2 6 1) ≤ x3) (o_2 : (0 ≤ x3 ∧ x3 < 8)) (o_3 : (0 ≤ (i32 (x3 - 1)) ∧ (i32 (x3 - 1)) < 8)) (c_4 : (f12 x3) = (f12 (i32 (x3 - 1)))) : 0 = (bC (inC (s.2 6) (s.2 9) a1 a2)) := by
  obtain ⟨ht, hn, h0, h1, h2, h3⟩ := hp
  have hL := tOK_L ht
  have hL1 := tOK_L1 ht hn
  (try have hq := ‹ascOf _ _ _›)
  (try have hq := hI.2.1)
  (try unfold lex3)
  (try simp only [bI_0, bI_n, Classical.not_not] at *)
  (try simp (disch := omega) only [i32_id] at *)
  first | done | omega | ((repeat' (with_reducible apply And.intro)) <;> first | assumption | rfl | omega | (exact bC_01 _) | (exact hq) | (exact (bC_t (inC_0 (by omega))).symm) | (exact bC_c (inC_3 (by omega)).symm) | (exact (bC_t ((inC_1 (by omega)).mpr (asc_two (by omega) hq c_8))).symm) | (exact (bC_f (fun h => asc_one hL1 hq c_8 ((inC_1 c_6).mp h))).symm) | (exact (bC_t ((inC_2 (by omega)).mpr (asc_dist (by omega) hq (fun k a b => hI.2.2.2 k a (by omega))))).symm) | (exact (bC_f (fun h => asc_twice hq hI.2.2.1.1 (by omega) c_4 ((inC_2 hI.1).mp h))).symm) | (intro k h4 h5; omega) | (intro k h4 h5; by_cases e : k = x3; (focus (rw [e]; assumption)); (focus (exact hI.2.2.2 k h4 (by omega)))) | grind [upI])
theorem vX3_isOf_7 (s : MS) (a1 : Int) (a2 : Int) (hp : tOK (s.2 6) ∧ 0 < (s.2 6) 2 ∧ 0 ≤ a2 ∧ a2 ≤ 100000 ∧ 0 ≤ a1 ∧ a1 ≤ 3) (c_1 : ¬ a1 = 0) (c_2 : ¬ a1 = 3) : (tOK (s.2 6) ∧ 0 ≤ a2 ∧ a2 ≤ 100000) := by
  obtain ⟨ht, hn, h0, h1, h2, h3⟩ := hp
  have hL := tOK_L ht
  have hL1 := tOK_L1 ht hn
  (try have hq := ‹ascOf _ _ _›)
  (try have hq := hI.2.1)
  (try unfold lex3)
  (try simp only [bI_0, bI_n, Classical.not_not] at *)
  (try simp (disch := omega) only [i32_id] at *)
  first | done | omega | ((repeat' (with_reducible apply And.intro)) <;> first | assumption | rfl | omega | (exact bC_01 _) | (exact hq) | (exact (bC_t (inC_0 (by omega))).symm) | (exact bC_c (inC_3 (by omega)).symm) | (exact (bC_t ((inC_1 (by omega)).mpr (asc_two (by omega) hq c_8))).symm) | (exact (bC_f (fun h => asc_one hL1 hq c_8 ((inC_1 c_6).mp h))).symm) | (exact (bC_t ((inC_2 (by omega)).mpr (asc_dist (by omega) hq (fun k a b => hI.2.2.2 k a (by omega))))).symm) | (exact (bC_f (fun h => asc_twice hq hI.2.2.1.1 (by omega) c_4 ((inC_2 hI.1).mp h))).symm) | (intro k h4 h5; omega) | (intro k h4 h5; by_cases e : k = x3; (focus (rw [e]; assumption)); (focus (exact hI.2.2.2 k h4 (by omega)))) | grind [upI])
theorem vX3_isOf_8 (s : MS) (a1 : Int) (a2 : Int) (hp : tOK (s.2 6) ∧ 0 < (s.2 6) 2 ∧ 0 ≤ a2 ∧ a2 ≤ 100000 ∧ 0 ≤ a1 ∧ a1 ≤ 3) (c_1 : ¬ a1 = 0) (c_2 : ¬ a1 = 3) (o_3 : (tOK (s.2 6) ∧ 0 ≤ a2 ∧ a2 ≤ 100000)) (f_4 : Int → Int) (q_5 : (ascOf (dig ((s.2 6) 0) ((s.2 6) 1) a2) f_4 ((s.2 6) 1))) (c_6 : ¬ a1 = 1) : a1 = 2 ∧ ascOf (dig (s.2 6 0) (s.2 6 1) a2) f_4 (s.2 6 1) ∧ (1 ≤ (1 : Int) ∧ (1 : Int) ≤ s.2 6 1) ∧ ∀ k : Int, 1 ≤ k → k < (1 : Int) → f_4 k ≠ f_4 (k - 1) := by
  obtain ⟨ht, hn, h0, h1, h2, h3⟩ := hp
  have hL := tOK_L ht
  have hL1 := tOK_L1 ht hn
  (try have hq := ‹ascOf _ _ _›)
  (try have hq := hI.2.1)
  (try unfold lex3)
  (try simp only [bI_0, bI_n, Classical.not_not] at *)
  (try simp (disch := omega) only [i32_id] at *)
  first | done | omega | ((repeat' (with_reducible apply And.intro)) <;> first | assumption | rfl | omega | (exact bC_01 _) | (exact hq) | (exact (bC_t (inC_0 (by omega))).symm) | (exact bC_c (inC_3 (by omega)).symm) | (exact (bC_t ((inC_1 (by omega)).mpr (asc_two (by omega) hq c_8))).symm) | (exact (bC_f (fun h => asc_one hL1 hq c_8 ((inC_1 c_6).mp h))).symm) | (exact (bC_t ((inC_2 (by omega)).mpr (asc_dist (by omega) hq (fun k a b => hI.2.2.2 k a (by omega))))).symm) | (exact (bC_f (fun h => asc_twice hq hI.2.2.1.1 (by omega) c_4 ((inC_2 hI.1).mp h))).symm) | (intro k h4 h5; omega) | (intro k h4 h5; by_cases e : k = x3; (focus (rw [e]; assumption)); (focus (exact hI.2.2.2 k h4 (by omega)))) | grind [upI])
theorem vX3_isOf_9 (s : MS) (a1 : Int) (a2 : Int) (hp : tOK (s.2 6) ∧ 0 < (s.2 6) 2 ∧ 0 ≤ a2 ∧ a2 ≤ 100000 ∧ 0 ≤ a1 ∧ a1 ≤ 3) (c_1 : ¬ a1 = 0) (c_2 : ¬ a1 = 3) (o_3 : (tOK (s.2 6) ∧ 0 ≤ a2 ∧ a2 ≤ 100000)) (f_4 : Int → Int) (q_5 : (ascOf (dig ((s.2 6) 0) ((s.2 6) 1) a2) f_4 ((s.2 6) 1))) (c_6 : a1 = 1) : (0 ≤ (i32 ((s.2 6 1) - 1)) ∧ (i32 ((s.2 6 1) - 1)) < 8) := by
  obtain ⟨ht, hn, h0, h1, h2, h3⟩ := hp
  have hL := tOK_L ht
  have hL1 := tOK_L1 ht hn
  (try have hq := ‹ascOf _ _ _›)
  (try have hq := hI.2.1)
  (try unfold lex3)
  (try simp only [bI_0, bI_n, Classical.not_not] at *)
  (try simp (disch := omega) only [i32_id] at *)
  first | done | omega | ((repeat' (with_reducible apply And.intro)) <;> first | assumption | rfl | omega | (exact bC_01 _) | (exact hq) | (exact (bC_t (inC_0 (by omega))).symm) | (exact bC_c (inC_3 (by omega)).symm) | (exact (bC_t ((inC_1 (by omega)).mpr (asc_two (by omega) hq c_8))).symm) | (exact (bC_f (fun h => asc_one hL1 hq c_8 ((inC_1 c_6).mp h))).symm) | (exact (bC_t ((inC_2 (by omega)).mpr (asc_dist (by omega) hq (fun k a b => hI.2.2.2 k a (by omega))))).symm) | (exact (bC_f (fun h => asc_twice hq hI.2.2.1.1 (by omega) c_4 ((inC_2 hI.1).mp h))).symm) | (intro k h4 h5; omega) | (intro k h4 h5; by_cases e : k = x3; (focus (rw [e]; assumption)); (focus (exact hI.2.2.2 k h4 (by omega)))) | grind [upI])
theorem vX3_isOf_10 (s : MS) (a1 : Int) (a2 : Int) (hp : tOK (s.2 6) ∧ 0 < (s.2 6) 2 ∧ 0 ≤ a2 ∧ a2 ≤ 100000 ∧ 0 ≤ a1 ∧ a1 ≤ 3) (c_1 : ¬ a1 = 0) (c_2 : ¬ a1 = 3) (o_3 : (tOK (s.2 6) ∧ 0 ≤ a2 ∧ a2 ≤ 100000)) (f_4 : Int → Int) (q_5 : (ascOf (dig ((s.2 6) 0) ((s.2 6) 1) a2) f_4 ((s.2 6) 1))) (c_6 : a1 = 1) (o_7 : (0 ≤ (i32 ((s.2 6 1) - 1)) ∧ (i32 ((s.2 6 1) - 1)) < 8)) (c_8 : (f_4 0) = (f_4 (i32 ((s.2 6 1) - 1)))) : 0 = (bC (inC (s.2 6) (s.2 9) a1 a2)) := by
  obtain ⟨ht, hn, h0, h1, h2, h3⟩ := hp
  have hL := tOK_L ht
  have hL1 := tOK_L1 ht hn
  (try have hq := ‹ascOf _ _ _›)
  (try have hq := hI.2.1)
  (try unfold lex3)
  (try simp only [bI_0, bI_n, Classical.not_not] at *)
  (try simp (disch := omega) only [i32_id] at *)
  first | done | omega | ((repeat' (with_reducible apply And.intro)) <;> first | assumption | rfl | omega | (exact bC_01 _) | (exact hq) | (exact (bC_t (inC_0 (by omega))).symm) | (exact bC_c (inC_3 (by omega)).symm) | (exact (bC_t ((inC_1 (by omega)).mpr (asc_two (by omega) hq c_8))).symm) | (exact (bC_f (fun h => asc_one hL1 hq c_8 ((inC_1 c_6).mp h))).symm) | (exact (bC_t ((inC_2 (by omega)).mpr (asc_dist (by omega) hq (fun k a b => hI.2.2.2 k a (by omega))))).symm) | (exact (bC_f (fun h => asc_twice hq hI.2.2.1.1 (by omega) c_4 ((inC_2 hI.1).mp h))).symm) | (intro k h4 h5; omega) | (intro k h4 h5; by_cases e : k = x3; (focus (rw [e]; assumption)); (focus (exact hI.2.2.2 k h4 (by omega)))) | grind [upI])
theorem vX3_isOf_11 (s : MS) (a1 : Int) (a2 : Int) (hp : tOK (s.2 6) ∧ 0 < (s.2 6) 2 ∧ 0 ≤ a2 ∧ a2 ≤ 100000 ∧ 0 ≤ a1 ∧ a1 ≤ 3) (c_1 : ¬ a1 = 0) (c_2 : ¬ a1 = 3) (o_3 : (tOK (s.2 6) ∧ 0 ≤ a2 ∧ a2 ≤ 100000)) (f_4 : Int → Int) (q_5 : (ascOf (dig ((s.2 6) 0) ((s.2 6) 1) a2) f_4 ((s.2 6) 1))) (c_6 : a1 = 1) (o_7 : (0 ≤ (i32 ((s.2 6 1) - 1)) ∧ (i32 ((s.2 6 1) - 1)) < 8)) (c_8 : ¬ (f_4 0) = (f_4 (i32 ((s.2 6 1) - 1)))) : 1 = (bC (inC (s.2 6) (s.2 9) a1 a2)) := by
  obtain ⟨ht, hn, h0, h1, h2, h3⟩ := hp
  have hL := tOK_L ht
  have hL1 := tOK_L1 ht hn
  (try have hq := ‹ascOf _ _ _›)
  (try have hq := hI.2.1)
  (try unfold lex3)
  (try simp only [bI_0, bI_n, Classical.not_not] at *)
  (try simp (disch := omega) only [i32_id] at *)
  first | done | omega | ((repeat' (with_reducible apply And.intro)) <;> first | assumption | rfl | omega | (exact bC_01 _) | (exact hq) | (exact (bC_t (inC_0 (by omega))).symm) | (exact bC_c (inC_3 (by omega)).symm) | (exact (bC_t ((inC_1 (by omega)).mpr (asc_two (by omega) hq c_8))).symm) | (exact (bC_f (fun h => asc_one hL1 hq c_8 ((inC_1 c_6).mp h))).symm) | (exact (bC_t ((inC_2 (by omega)).mpr (asc_dist (by omega) hq (fun k a b => hI.2.2.2 k a (by omega))))).symm) | (exact (bC_f (fun h => asc_twice hq hI.2.2.1.1 (by omega) c_4 ((inC_2 hI.1).mp h))).symm) | (intro k h4 h5; omega) | (intro k h4 h5; by_cases e : k = x3; (focus (rw [e]; assumption)); (focus (exact hI.2.2.2 k h4 (by omega)))) | grind [upI])
theorem vX3_isOf_12 (s : MS) (a1 : Int) (a2 : Int) (hp : tOK (s.2 6) ∧ 0 < (s.2 6) 2 ∧ 0 ≤ a2 ∧ a2 ≤ 100000 ∧ 0 ≤ a1 ∧ a1 ≤ 3) (c_1 : ¬ a1 = 0) (c_2 : a1 = 3) : (tOK (s.2 6)) := by
  obtain ⟨ht, hn, h0, h1, h2, h3⟩ := hp
  have hL := tOK_L ht
  have hL1 := tOK_L1 ht hn
  (try have hq := ‹ascOf _ _ _›)
  (try have hq := hI.2.1)
  (try unfold lex3)
  (try simp only [bI_0, bI_n, Classical.not_not] at *)
  (try simp (disch := omega) only [i32_id] at *)
  first | done | omega | ((repeat' (with_reducible apply And.intro)) <;> first | assumption | rfl | omega | (exact bC_01 _) | (exact hq) | (exact (bC_t (inC_0 (by omega))).symm) | (exact bC_c (inC_3 (by omega)).symm) | (exact (bC_t ((inC_1 (by omega)).mpr (asc_two (by omega) hq c_8))).symm) | (exact (bC_f (fun h => asc_one hL1 hq c_8 ((inC_1 c_6).mp h))).symm) | (exact (bC_t ((inC_2 (by omega)).mpr (asc_dist (by omega) hq (fun k a b => hI.2.2.2 k a (by omega))))).symm) | (exact (bC_f (fun h => asc_twice hq hI.2.2.1.1 (by omega) c_4 ((inC_2 hI.1).mp h))).symm) | (intro k h4 h5; omega) | (intro k h4 h5; by_cases e : k = x3; (focus (rw [e]; assumption)); (focus (exact hI.2.2.2 k h4 (by omega)))) | grind [upI])
theorem vX3_isOf_13 (s : MS) (a1 : Int) (a2 : Int) (hp : tOK (s.2 6) ∧ 0 < (s.2 6) 2 ∧ 0 ≤ a2 ∧ a2 ≤ 100000 ∧ 0 ≤ a1 ∧ a1 ≤ 3) (c_1 : ¬ a1 = 0) (c_2 : a1 = 3) (o_9 : (tOK (s.2 6))) : (bC (toldP ((s.2 6) 5) (s.2 9) a2)) = (bC (inC (s.2 6) (s.2 9) a1 a2)) := by
  obtain ⟨ht, hn, h0, h1, h2, h3⟩ := hp
  have hL := tOK_L ht
  have hL1 := tOK_L1 ht hn
  (try have hq := ‹ascOf _ _ _›)
  (try have hq := hI.2.1)
  (try unfold lex3)
  (try simp only [bI_0, bI_n, Classical.not_not] at *)
  (try simp (disch := omega) only [i32_id] at *)
  first | done | omega | ((repeat' (with_reducible apply And.intro)) <;> first | assumption | rfl | omega | (exact bC_01 _) | (exact hq) | (exact (bC_t (inC_0 (by omega))).symm) | (exact bC_c (inC_3 (by omega)).symm) | (exact (bC_t ((inC_1 (by omega)).mpr (asc_two (by omega) hq c_8))).symm) | (exact (bC_f (fun h => asc_one hL1 hq c_8 ((inC_1 c_6).mp h))).symm) | (exact (bC_t ((inC_2 (by omega)).mpr (asc_dist (by omega) hq (fun k a b => hI.2.2.2 k a (by omega))))).symm) | (exact (bC_f (fun h => asc_twice hq hI.2.2.1.1 (by omega) c_4 ((inC_2 hI.1).mp h))).symm) | (intro k h4 h5; omega) | (intro k h4 h5; by_cases e : k = x3; (focus (rw [e]; assumption)); (focus (exact hI.2.2.2 k h4 (by omega)))) | grind [upI])
theorem vX3_isOf_14 (s : MS) (a1 : Int) (a2 : Int) (hp : tOK (s.2 6) ∧ 0 < (s.2 6) 2 ∧ 0 ≤ a2 ∧ a2 ≤ 100000 ∧ 0 ≤ a1 ∧ a1 ≤ 3) (c_1 : ¬ a1 = 0) (c_2 : a1 = 3) (o_9 : (tOK (s.2 6))) : ((bC (toldP ((s.2 6) 5) (s.2 9) a2)) = 0 ∨ (bC (toldP ((s.2 6) 5) (s.2 9) a2)) = 1) := by
  obtain ⟨ht, hn, h0, h1, h2, h3⟩ := hp
  have hL := tOK_L ht
  have hL1 := tOK_L1 ht hn
  (try have hq := ‹ascOf _ _ _›)
  (try have hq := hI.2.1)
  (try unfold lex3)
  (try simp only [bI_0, bI_n, Classical.not_not] at *)
  (try simp (disch := omega) only [i32_id] at *)
  first | done | omega | ((repeat' (with_reducible apply And.intro)) <;> first | assumption | rfl | omega | (exact bC_01 _) | (exact hq) | (exact (bC_t (inC_0 (by omega))).symm) | (exact bC_c (inC_3 (by omega)).symm) | (exact (bC_t ((inC_1 (by omega)).mpr (asc_two (by omega) hq c_8))).symm) | (exact (bC_f (fun h => asc_one hL1 hq c_8 ((inC_1 c_6).mp h))).symm) | (exact (bC_t ((inC_2 (by omega)).mpr (asc_dist (by omega) hq (fun k a b => hI.2.2.2 k a (by omega))))).symm) | (exact (bC_f (fun h => asc_twice hq hI.2.2.1.1 (by omega) c_4 ((inC_2 hI.1).mp h))).symm) | (intro k h4 h5; omega) | (intro k h4 h5; by_cases e : k = x3; (focus (rw [e]; assumption)); (focus (exact hI.2.2.2 k h4 (by omega)))) | grind [upI])
theorem vX3_isOf_15 (s : MS) (a1 : Int) (a2 : Int) (hp : tOK (s.2 6) ∧ 0 < (s.2 6) 2 ∧ 0 ≤ a2 ∧ a2 ≤ 100000 ∧ 0 ≤ a1 ∧ a1 ≤ 3) (c_1 : a1 = 0) : 1 = (bC (inC (s.2 6) (s.2 9) a1 a2)) := by
  obtain ⟨ht, hn, h0, h1, h2, h3⟩ := hp
  have hL := tOK_L ht
  have hL1 := tOK_L1 ht hn
  (try have hq := ‹ascOf _ _ _›)
  (try have hq := hI.2.1)
  (try unfold lex3)
  (try simp only [bI_0, bI_n, Classical.not_not] at *)
  (try simp (disch := omega) only [i32_id] at *)
  first | done | omega | ((repeat' (with_reducible apply And.intro)) <;> first | assumption | rfl | omega | (exact bC_01 _) | (exact hq) | (exact (bC_t (inC_0 (by omega))).symm) | (exact bC_c (inC_3 (by omega)).symm) | (exact (bC_t ((inC_1 (by omega)).mpr (asc_two (by omega) hq c_8))).symm) | (exact (bC_f (fun h => asc_one hL1 hq c_8 ((inC_1 c_6).mp h))).symm) | (exact (bC_t ((inC_2 (by omega)).mpr (asc_dist (by omega) hq (fun k a b => hI.2.2.2 k a (by omega))))).symm) | (exact (bC_f (fun h => asc_twice hq hI.2.2.1.1 (by omega) c_4 ((inC_2 hI.1).mp h))).symm) | (intro k h4 h5; omega) | (intro k h4 h5; by_cases e : k = x3; (focus (rw [e]; assumption)); (focus (exact hI.2.2.2 k h4 (by omega)))) | grind [upI])
theorem allX3_isOf (b : AH) (s : MS) (a1 : Int) (a2 : Int) (hp : tOK (s.2 6) ∧ 0 < (s.2 6) 2 ∧ 0 ≤ a2 ∧ a2 ≤ 100000 ∧ 0 ≤ a1 ∧ a1 ≤ 3) : ∀ m1 m2 m3 : Nat, (∀ (x3 : Int) (f11 : Int → Int) (f12 : Int → Int), m1 = 0 → m2 = 0 → m3 = ((s.2 6 1 - x3).toNat) → (a1 = 2 ∧ ascOf (dig (s.2 6 0) (s.2 6 1) a2) f12 (s.2 6 1) ∧ (1 ≤ x3 ∧ x3 ≤ s.2 6 1) ∧ ∀ k : Int, 1 ≤ k → k < x3 → f12 k ≠ f12 (k - 1)) → HX3_isOf_57 (QX3_isOf s a1 a2) b s x3 f11 f12) := by
  refine lex3_ind ?_
  intro m1 m2 m3 ih
  rintro x3 f11 f12 rfl rfl rfl hI
  refine bX3_isOf_57 b s x3 f11 f12 ?_
  refine ⟨fun c_1 => ?_, fun c_1 => ?_⟩
  · exact ⟨f11, f12, (rI_c (vX3_isOf_1 s a1 a2 hp x3 f11 f12 hI c_1)), rfl⟩
  · have o_2 : (0 ≤ x3 ∧ x3 < 8) := (vX3_isOf_2 s a1 a2 hp x3 f11 f12 hI c_1)
    refine ⟨o_2, ?_⟩
    have o_3 : (0 ≤ (i32 (x3 - 1)) ∧ (i32 (x3 - 1)) < 8) := (vX3_isOf_3 s a1 a2 hp x3 f11 f12 hI c_1 o_2)
    refine ⟨o_3, ?_⟩
    refine ⟨fun c_4 => ?_, fun c_4 => ?_⟩
    · exact (ih _ _ _ (vX3_isOf_5 s a1 a2 hp x3 f11 f12 hI c_1 o_2 o_3 c_4)) (i32 (x3 + 1)) f11 f12 rfl rfl rfl (vX3_isOf_4 s a1 a2 hp x3 f11 f12 hI c_1 o_2 o_3 c_4)
    · exact ⟨f11, f12, (rI_c (vX3_isOf_6 s a1 a2 hp x3 f11 f12 hI c_1 o_2 o_3 c_4)), rfl⟩
theorem ctX3_isOf (b : AH) (s : MS) (a1 : Int) (a2 : Int) (hp : tOK (s.2 6) ∧ 0 < (s.2 6) 2 ∧ 0 ≤ a2 ∧ a2 ≤ 100000 ∧ 0 ≤ a1 ∧ a1 ≤ 3) : MC mX3_isOf 3 b s [vI a1, vI a2] (QX3_isOf s a1 a2) := by
  refine MC.of (by decide) rfl (Nat.le_of_ble_eq_true rfl) (JW.steq (s2 := sA (sA s 11 (s.2 11)) 12 (s.2 12)) (by simp only [sA_id, sS_id]) ?_)
  refine bX3_isOf_0 b s a1 a2 (s.2 11) (s.2 12) ?_
  refine ⟨fun c_1 => ?_, fun c_1 => ?_⟩
  · refine ⟨fun c_2 => ?_, fun c_2 => ?_⟩
    · have o_3 : (tOK (s.2 6) ∧ 0 ≤ a2 ∧ a2 ≤ 100000) := (vX3_isOf_7 s a1 a2 hp c_1 c_2)
      refine ⟨o_3, ?_⟩
      intro f_4 q_5
      refine ⟨fun c_6 => ?_, fun c_6 => ?_⟩
      · exact (allX3_isOf b s a1 a2 hp _ _ _) 1 (figs ((s.2 6) 0) ((s.2 6) 1) a2 (s.2 11)) f_4 rfl rfl rfl (vX3_isOf_8 s a1 a2 hp c_1 c_2 o_3 f_4 q_5 c_6)
      · have o_7 : (0 ≤ (i32 ((s.2 6 1) - 1)) ∧ (i32 ((s.2 6 1) - 1)) < 8) := (vX3_isOf_9 s a1 a2 hp c_1 c_2 o_3 f_4 q_5 c_6)
        refine ⟨o_7, ?_⟩
        refine ⟨fun c_8 => ?_, fun c_8 => ?_⟩
        · exact ⟨(figs ((s.2 6) 0) ((s.2 6) 1) a2 (s.2 11)), f_4, (rI_c (vX3_isOf_10 s a1 a2 hp c_1 c_2 o_3 f_4 q_5 c_6 o_7 c_8)), rfl⟩
        · exact ⟨(figs ((s.2 6) 0) ((s.2 6) 1) a2 (s.2 11)), f_4, (rI_c (vX3_isOf_11 s a1 a2 hp c_1 c_2 o_3 f_4 q_5 c_6 o_7 c_8)), rfl⟩
    · have o_9 : (tOK (s.2 6)) := (vX3_isOf_12 s a1 a2 hp c_1 c_2)
      refine ⟨o_9, ?_⟩
      exact ⟨(vX3_isOf_14 s a1 a2 hp c_1 c_2 o_9), ⟨(s.2 11), (s.2 12), (rI_c (vX3_isOf_13 s a1 a2 hp c_1 c_2 o_9)), rfl⟩⟩
  · exact ⟨(s.2 11), (s.2 12), (rI_c (vX3_isOf_15 s a1 a2 hp c_1)), rfl⟩
def HX3_crowds_0 (Q : Option AV → MS → Prop) (b : AH) (s : MS) (x1 : Int) (f11 : Int → Int) (f12 : Int → Int) (f18 : Int → Int) : Prop := MW mX3_crowds 4 Q b 0 [(0, vR 351), (1, vI x1)] [] (sA (sA (sA s 11 f11) 12 f12) 18 f18)
def HX3_crowds_2 (Q : Option AV → MS → Prop) (b : AH) (s : MS) (x1 : Int) (x2 : Int) (f11 : Int → Int) (f12 : Int → Int) (f18 : Int → Int) : Prop := MW mX3_crowds 4 Q b 2 [(0, vR 351), (1, vI x1), (2, vI x2)] [] (sA (sA (sA s 11 f11) 12 f12) 18 f18)
theorem bX3_crowds_0 {Q : Option AV → MS → Prop} (b : AH) (s : MS) (x1 : Int) (f11 : Int → Int) (f12 : Int → Int) (f18 : Int → Int) (K : HX3_crowds_2 Q b s x1 0 f11 f12 f18) : HX3_crowds_0 Q b s x1 f11 f12 f18 := by
  refine JW.iconst dX3_crowds_0 rfl ?_
  refine JW.istore_n (ls' := [(0, vR 351), (1, vI x1), (2, vI 0)]) dX3_crowds_1 (Nat.le_of_ble_eq_true rfl) rfl ?_
  exact JW.pick [0, 1, 2] rfl K
theorem bX3_crowds_2 {Q : Option AV → MS → Prop} (b : AH) (s : MS) (x1 : Int) (x2 : Int) (f11 : Int → Int) (f12 : Int → Int) (f18 : Int → Int) (K : ((s.2 6 2) ≤ x2 → Q none (sA (sA (sA s 11 f11) 12 f12) 18 f18)) ∧ (¬ (s.2 6 2) ≤ x2 → (tOK (s.2 6) ∧ 0 < (s.2 6) 2 ∧ 0 ≤ x2 ∧ x2 ≤ 100000 ∧ 0 ≤ x1 ∧ x1 ≤ 3) ∧ ((∀ (f_3 : Int → Int) (f_4 : Int → Int), (0 ≤ x2 ∧ x2 < 10000) ∧ (((bC (inC (s.2 6) (s.2 9) x1 x2)) = 0 ∨ (bC (inC (s.2 6) (s.2 9) x1 x2)) = 1) ∧ (HX3_crowds_2 Q b s x1 (i32 (x2 + 1)) f_3 f_4 (upI f18 x2 (bC (inC (s.2 6) (s.2 9) x1 x2))))))))) : HX3_crowds_2 Q b s x1 x2 f11 f12 f18 := by
  refine JW.iload_n dX3_crowds_2 rfl ?_
  refine JW.aload_n dX3_crowds_3 rfl ?_
  refine JW.mget (v := vR 358) dX3_crowds_4 fX3_34 rfl ?_
  refine JW.iconst dX3_crowds_7 rfl ?_
  refine JW.mald 6 (x := (s.2 6 2)) dX3_crowds_8 (Nat.le_of_ble_eq_true rfl) rfl (by decide) (by decide) rfl ?_
  refine JW.icmp_ge (tgt := 30) dX3_crowds_9 rfl (fun c_1 => ?_) (fun c_1 => ?_)
  · have K := K.1 c_1
    exact JW.vreturn dX3_crowds_30 rfl ⟨_, rfl, K⟩
  · have K := K.2 c_1
    refine JW.aload_n dX3_crowds_12 rfl ?_
    refine JW.mget (v := vR 370) dX3_crowds_13 fX3_71 rfl ?_
    refine JW.iload_n dX3_crowds_16 rfl ?_
    refine JW.aload_n dX3_crowds_17 rfl ?_
    refine JW.iload_n dX3_crowds_18 rfl ?_
    refine JW.iload_n dX3_crowds_19 rfl ?_
    obtain ⟨o_2, K⟩ := K
    refine JW.mcall (As := [vI x1, vI x2]) dX3_crowds_20 vX3_isOf rfl q1997 (ctX3_isOf b (sA (sA (sA s 11 f11) 12 f12) 18 f18) x1 x2 o_2) (Nat.le_of_ble_eq_true rfl) rfl (Nat.le_of_ble_eq_true rfl) ?_
    rintro _ _ ⟨f_3, f_4, rfl, rfl⟩
    refine JW.steq (s2 := sA (sA (sA s 11 f_3) 12 f_4) 18 f18) (by simp only [sA_A, sS_S, sA_S, sA_lt, sS_lt, Nat.reduceLT, id_eq] <;> rfl) ?_
    replace K := K f_3 f_4
    obtain ⟨o_6, K⟩ := K
    obtain ⟨o_7, K⟩ := K
    refine JW.mzst 18 (f := f18) dX3_crowds_23 (Nat.le_of_ble_eq_true rfl) rfl o_6.1 o_6.2 o_7 rfl ?_
    refine JW.steq (s2 := sA (sA (sA s 11 f_3) 12 f_4) 18 (upI f18 x2 (bC (inC (s.2 6) (s.2 9) x1 x2)))) (by simp only [sA_A, sS_S, sA_S, sA_lt, sS_lt, Nat.reduceLT, id_eq] <;> rfl) ?_
    refine JW.iinc (ls' := [(0, vR 351), (1, vI x1), (2, vI (i32 (x2 + 1)))]) dX3_crowds_24 (Nat.le_of_ble_eq_true rfl) rfl rfl ?_
    refine JW.goto (tgt := 2) dX3_crowds_27 rfl ?_
    exact JW.pick [0, 1, 2] rfl K
def QX3_crowds (s : MS) (a1 : Int) : Option AV → MS → Prop := fun v s' => ∃ (f11 : Int → Int) (f12 : Int → Int) (f18 : Int → Int), v = none ∧ s' = sA (sA (sA s 11 f11) 12 f12) 18 f18 ∧ (BS f18 ((s.2 6) 2) (inC (s.2 6) (s.2 9) a1))
theorem vX3_crowds_1 (s : MS) (a1 : Int) (hp : tOK (s.2 6) ∧ (0 ≤ a1 ∧ a1 ≤ 3)) (x1 : Int) (x2 : Int) (f11 : Int → Int) (f12 : Int → Int) (f18 : Int → Int) (hI : x1 = a1 ∧ (0 ≤ x2 ∧ x2 ≤ s.2 6 2) ∧ ∀ z : Int, 0 ≤ z → z < x2 → f18 z = bC (inC (s.2 6) (s.2 9) a1 z)) (c_1 : (s.2 6 2) ≤ x2) : BS f18 ((s.2 6) 2) (inC (s.2 6) (s.2 9) a1) := by
  obtain ⟨ht, hi⟩ := hp
  have hN := tOK_N ht
  (try rw [hI.1] at *)
  (try unfold lex3)
  (try simp only [bI_0, bI_n, Classical.not_not] at *)
  (try simp (disch := omega) only [i32_id] at *)
  first | done | omega | ((repeat' (with_reducible apply And.intro)) <;> first | assumption | rfl | omega | (exact bC_01 _) | (intro z h0 h1; exact hI.2.2 z h0 (by omega)) | (exact upto_s (p := fun z v => v = bC (inC (s.2 6) (s.2 9) a1 z)) hI.2.2 rfl) | (intro z h0 h1; omega) | grind [upI])
theorem vX3_crowds_2 (s : MS) (a1 : Int) (hp : tOK (s.2 6) ∧ (0 ≤ a1 ∧ a1 ≤ 3)) (x1 : Int) (x2 : Int) (f11 : Int → Int) (f12 : Int → Int) (f18 : Int → Int) (hI : x1 = a1 ∧ (0 ≤ x2 ∧ x2 ≤ s.2 6 2) ∧ ∀ z : Int, 0 ≤ z → z < x2 → f18 z = bC (inC (s.2 6) (s.2 9) a1 z)) (c_1 : ¬ (s.2 6 2) ≤ x2) : (tOK (s.2 6) ∧ 0 < (s.2 6) 2 ∧ 0 ≤ x2 ∧ x2 ≤ 100000 ∧ 0 ≤ x1 ∧ x1 ≤ 3) := by
  obtain ⟨ht, hi⟩ := hp
  have hN := tOK_N ht
  (try rw [hI.1] at *)
  (try unfold lex3)
  (try simp only [bI_0, bI_n, Classical.not_not] at *)
  (try simp (disch := omega) only [i32_id] at *)
  first | done | omega | ((repeat' (with_reducible apply And.intro)) <;> first | assumption | rfl | omega | (exact bC_01 _) | (intro z h0 h1; exact hI.2.2 z h0 (by omega)) | (exact upto_s (p := fun z v => v = bC (inC (s.2 6) (s.2 9) a1 z)) hI.2.2 rfl) | (intro z h0 h1; omega) | grind [upI])
theorem vX3_crowds_3 (s : MS) (a1 : Int) (hp : tOK (s.2 6) ∧ (0 ≤ a1 ∧ a1 ≤ 3)) (x1 : Int) (x2 : Int) (f11 : Int → Int) (f12 : Int → Int) (f18 : Int → Int) (hI : x1 = a1 ∧ (0 ≤ x2 ∧ x2 ≤ s.2 6 2) ∧ ∀ z : Int, 0 ≤ z → z < x2 → f18 z = bC (inC (s.2 6) (s.2 9) a1 z)) (c_1 : ¬ (s.2 6 2) ≤ x2) (o_2 : (tOK (s.2 6) ∧ 0 < (s.2 6) 2 ∧ 0 ≤ x2 ∧ x2 ≤ 100000 ∧ 0 ≤ x1 ∧ x1 ≤ 3)) (f_3 : Int → Int) (f_4 : Int → Int) : (0 ≤ x2 ∧ x2 < 10000) := by
  obtain ⟨ht, hi⟩ := hp
  have hN := tOK_N ht
  (try rw [hI.1] at *)
  (try unfold lex3)
  (try simp only [bI_0, bI_n, Classical.not_not] at *)
  (try simp (disch := omega) only [i32_id] at *)
  first | done | omega | ((repeat' (with_reducible apply And.intro)) <;> first | assumption | rfl | omega | (exact bC_01 _) | (intro z h0 h1; exact hI.2.2 z h0 (by omega)) | (exact upto_s (p := fun z v => v = bC (inC (s.2 6) (s.2 9) a1 z)) hI.2.2 rfl) | (intro z h0 h1; omega) | grind [upI])
theorem vX3_crowds_4 (s : MS) (a1 : Int) (hp : tOK (s.2 6) ∧ (0 ≤ a1 ∧ a1 ≤ 3)) (x1 : Int) (x2 : Int) (f11 : Int → Int) (f12 : Int → Int) (f18 : Int → Int) (hI : x1 = a1 ∧ (0 ≤ x2 ∧ x2 ≤ s.2 6 2) ∧ ∀ z : Int, 0 ≤ z → z < x2 → f18 z = bC (inC (s.2 6) (s.2 9) a1 z)) (c_1 : ¬ (s.2 6 2) ≤ x2) (o_2 : (tOK (s.2 6) ∧ 0 < (s.2 6) 2 ∧ 0 ≤ x2 ∧ x2 ≤ 100000 ∧ 0 ≤ x1 ∧ x1 ≤ 3)) (f_3 : Int → Int) (f_4 : Int → Int) (o_6 : (0 ≤ x2 ∧ x2 < 10000)) : ((bC (inC (s.2 6) (s.2 9) x1 x2)) = 0 ∨ (bC (inC (s.2 6) (s.2 9) x1 x2)) = 1) := by
  obtain ⟨ht, hi⟩ := hp
  have hN := tOK_N ht
  (try rw [hI.1] at *)
  (try unfold lex3)
  (try simp only [bI_0, bI_n, Classical.not_not] at *)
  (try simp (disch := omega) only [i32_id] at *)
  first | done | omega | ((repeat' (with_reducible apply And.intro)) <;> first | assumption | rfl | omega | (exact bC_01 _) | (intro z h0 h1; exact hI.2.2 z h0 (by omega)) | (exact upto_s (p := fun z v => v = bC (inC (s.2 6) (s.2 9) a1 z)) hI.2.2 rfl) | (intro z h0 h1; omega) | grind [upI])
theorem vX3_crowds_5 (s : MS) (a1 : Int) (hp : tOK (s.2 6) ∧ (0 ≤ a1 ∧ a1 ≤ 3)) (x1 : Int) (x2 : Int) (f11 : Int → Int) (f12 : Int → Int) (f18 : Int → Int) (hI : x1 = a1 ∧ (0 ≤ x2 ∧ x2 ≤ s.2 6 2) ∧ ∀ z : Int, 0 ≤ z → z < x2 → f18 z = bC (inC (s.2 6) (s.2 9) a1 z)) (c_1 : ¬ (s.2 6 2) ≤ x2) (o_2 : (tOK (s.2 6) ∧ 0 < (s.2 6) 2 ∧ 0 ≤ x2 ∧ x2 ≤ 100000 ∧ 0 ≤ x1 ∧ x1 ≤ 3)) (f_3 : Int → Int) (f_4 : Int → Int) (o_6 : (0 ≤ x2 ∧ x2 < 10000)) (o_7 : ((bC (inC (s.2 6) (s.2 9) x1 x2)) = 0 ∨ (bC (inC (s.2 6) (s.2 9) x1 x2)) = 1)) : x1 = a1 ∧ (0 ≤ (i32 (x2 + 1)) ∧ (i32 (x2 + 1)) ≤ s.2 6 2) ∧ ∀ z : Int, 0 ≤ z → z < (i32 (x2 + 1)) → (upI f18 x2 (bC (inC (s.2 6) (s.2 9) x1 x2))) z = bC (inC (s.2 6) (s.2 9) a1 z) := by
  obtain ⟨ht, hi⟩ := hp
  have hN := tOK_N ht
  (try rw [hI.1] at *)
  (try unfold lex3)
  (try simp only [bI_0, bI_n, Classical.not_not] at *)
  (try simp (disch := omega) only [i32_id] at *)
  first | done | omega | ((repeat' (with_reducible apply And.intro)) <;> first | assumption | rfl | omega | (exact bC_01 _) | (intro z h0 h1; exact hI.2.2 z h0 (by omega)) | (exact upto_s (p := fun z v => v = bC (inC (s.2 6) (s.2 9) a1 z)) hI.2.2 rfl) | (intro z h0 h1; omega) | grind [upI])
theorem vX3_crowds_6 (s : MS) (a1 : Int) (hp : tOK (s.2 6) ∧ (0 ≤ a1 ∧ a1 ≤ 3)) (x1 : Int) (x2 : Int) (f11 : Int → Int) (f12 : Int → Int) (f18 : Int → Int) (hI : x1 = a1 ∧ (0 ≤ x2 ∧ x2 ≤ s.2 6 2) ∧ ∀ z : Int, 0 ≤ z → z < x2 → f18 z = bC (inC (s.2 6) (s.2 9) a1 z)) (c_1 : ¬ (s.2 6 2) ≤ x2) (o_2 : (tOK (s.2 6) ∧ 0 < (s.2 6) 2 ∧ 0 ≤ x2 ∧ x2 ≤ 100000 ∧ 0 ≤ x1 ∧ x1 ≤ 3)) (f_3 : Int → Int) (f_4 : Int → Int) (o_6 : (0 ≤ x2 ∧ x2 < 10000)) (o_7 : ((bC (inC (s.2 6) (s.2 9) x1 x2)) = 0 ∨ (bC (inC (s.2 6) (s.2 9) x1 x2)) = 1)) : lex3 0 0 ((s.2 6 2 - (i32 (x2 + 1))).toNat) 0 0 ((s.2 6 2 - x2).toNat) := by
  obtain ⟨ht, hi⟩ := hp
  have hN := tOK_N ht
  (try rw [hI.1] at *)
  (try unfold lex3)
  (try simp only [bI_0, bI_n, Classical.not_not] at *)
  (try simp (disch := omega) only [i32_id] at *)
  first | done | omega | ((repeat' (with_reducible apply And.intro)) <;> first | assumption | rfl | omega | (exact bC_01 _) | (intro z h0 h1; exact hI.2.2 z h0 (by omega)) | (exact upto_s (p := fun z v => v = bC (inC (s.2 6) (s.2 9) a1 z)) hI.2.2 rfl) | (intro z h0 h1; omega) | grind [upI])
theorem vX3_crowds_7 (s : MS) (a1 : Int) (hp : tOK (s.2 6) ∧ (0 ≤ a1 ∧ a1 ≤ 3)) : a1 = a1 ∧ (0 ≤ (0 : Int) ∧ (0 : Int) ≤ s.2 6 2) ∧ ∀ z : Int, 0 ≤ z → z < (0 : Int) → (s.2 18) z = bC (inC (s.2 6) (s.2 9) a1 z) := by
  obtain ⟨ht, hi⟩ := hp
  have hN := tOK_N ht
  (try rw [hI.1] at *)
  (try unfold lex3)
  (try simp only [bI_0, bI_n, Classical.not_not] at *)
  (try simp (disch := omega) only [i32_id] at *)
  first | done | omega | ((repeat' (with_reducible apply And.intro)) <;> first | assumption | rfl | omega | (exact bC_01 _) | (intro z h0 h1; exact hI.2.2 z h0 (by omega)) | (exact upto_s (p := fun z v => v = bC (inC (s.2 6) (s.2 9) a1 z)) hI.2.2 rfl) | (intro z h0 h1; omega) | grind [upI])
theorem allX3_crowds (b : AH) (s : MS) (a1 : Int) (hp : tOK (s.2 6) ∧ (0 ≤ a1 ∧ a1 ≤ 3)) : ∀ m1 m2 m3 : Nat, (∀ (x1 : Int) (x2 : Int) (f11 : Int → Int) (f12 : Int → Int) (f18 : Int → Int), m1 = 0 → m2 = 0 → m3 = ((s.2 6 2 - x2).toNat) → (x1 = a1 ∧ (0 ≤ x2 ∧ x2 ≤ s.2 6 2) ∧ ∀ z : Int, 0 ≤ z → z < x2 → f18 z = bC (inC (s.2 6) (s.2 9) a1 z)) → HX3_crowds_2 (QX3_crowds s a1) b s x1 x2 f11 f12 f18) := by
  refine lex3_ind ?_
  intro m1 m2 m3 ih
  rintro x1 x2 f11 f12 f18 rfl rfl rfl hI
  refine bX3_crowds_2 b s x1 x2 f11 f12 f18 ?_
  refine ⟨fun c_1 => ?_, fun c_1 => ?_⟩
  · exact ⟨f11, f12, f18, rfl, rfl, (vX3_crowds_1 s a1 hp x1 x2 f11 f12 f18 hI c_1)⟩
  · have o_2 : (tOK (s.2 6) ∧ 0 < (s.2 6) 2 ∧ 0 ≤ x2 ∧ x2 ≤ 100000 ∧ 0 ≤ x1 ∧ x1 ≤ 3) := (vX3_crowds_2 s a1 hp x1 x2 f11 f12 f18 hI c_1)
    refine ⟨o_2, ?_⟩
    intro f_3 f_4
    have o_6 : (0 ≤ x2 ∧ x2 < 10000) := (vX3_crowds_3 s a1 hp x1 x2 f11 f12 f18 hI c_1 o_2 f_3 f_4)
    refine ⟨o_6, ?_⟩
    have o_7 : ((bC (inC (s.2 6) (s.2 9) x1 x2)) = 0 ∨ (bC (inC (s.2 6) (s.2 9) x1 x2)) = 1) := (vX3_crowds_4 s a1 hp x1 x2 f11 f12 f18 hI c_1 o_2 f_3 f_4 o_6)
    refine ⟨o_7, ?_⟩
    exact (ih _ _ _ (vX3_crowds_6 s a1 hp x1 x2 f11 f12 f18 hI c_1 o_2 f_3 f_4 o_6 o_7)) x1 (i32 (x2 + 1)) f_3 f_4 (upI f18 x2 (bC (inC (s.2 6) (s.2 9) x1 x2))) rfl rfl rfl (vX3_crowds_5 s a1 hp x1 x2 f11 f12 f18 hI c_1 o_2 f_3 f_4 o_6 o_7)
theorem ctX3_crowds (b : AH) (s : MS) (a1 : Int) (hp : tOK (s.2 6) ∧ (0 ≤ a1 ∧ a1 ≤ 3)) : MC mX3_crowds 4 b s [vI a1] (QX3_crowds s a1) := by
  refine MC.of (by decide) rfl (Nat.le_of_ble_eq_true rfl) (JW.steq (s2 := sA (sA (sA s 11 (s.2 11)) 12 (s.2 12)) 18 (s.2 18)) (by simp only [sA_id, sS_id]) ?_)
  refine bX3_crowds_0 b s a1 (s.2 11) (s.2 12) (s.2 18) ?_
  exact (allX3_crowds b s a1 hp _ _ _) a1 0 (s.2 11) (s.2 12) (s.2 18) rfl rfl rfl (vX3_crowds_7 s a1 hp)
def HX3_goes_0 (Q : Option AV → MS → Prop) (b : AH) (s : MS) (f18 : Int → Int) (f19 : Int → Int) : Prop := MW mX3_goes 1 Q b 0 [(0, vR 351)] [] (sA (sA s 18 f18) 19 f19)
def HX3_goes_2 (Q : Option AV → MS → Prop) (b : AH) (s : MS) (x1 : Int) (f18 : Int → Int) (f19 : Int → Int) : Prop := MW mX3_goes 1 Q b 2 [(0, vR 351), (1, vI x1)] [] (sA (sA s 18 f18) 19 f19)
def HX3_goes_27 (Q : Option AV → MS → Prop) (b : AH) (s : MS) (x1 : Int) (f18 : Int → Int) (f19 : Int → Int) : Prop := MW mX3_goes 1 Q b 27 [(0, vR 351), (1, vI x1)] [] (sA (sA s 18 f18) 19 f19)
def HX3_goes_66 (Q : Option AV → MS → Prop) (b : AH) (s : MS) (x1 : Int) (f18 : Int → Int) (f19 : Int → Int) : Prop := MW mX3_goes 1 Q b 66 [(0, vR 351), (1, vI x1)] [] (sA (sA s 18 f18) 19 f19)
theorem bX3_goes_0 {Q : Option AV → MS → Prop} (b : AH) (s : MS) (f18 : Int → Int) (f19 : Int → Int) (K : HX3_goes_2 Q b s 0 f18 f19) : HX3_goes_0 Q b s f18 f19 := by
  refine JW.iconst dX3_goes_0 rfl ?_
  refine JW.istore_n (ls' := [(0, vR 351), (1, vI 0)]) dX3_goes_1 (Nat.le_of_ble_eq_true rfl) rfl ?_
  exact JW.pick [0, 1] rfl K
theorem bX3_goes_2 {Q : Option AV → MS → Prop} (b : AH) (s : MS) (x1 : Int) (f18 : Int → Int) (f19 : Int → Int) (K : ((s.2 6 2) ≤ x1 → HX3_goes_27 Q b s 0 f18 f19) ∧ (¬ (s.2 6 2) ≤ x1 → (0 ≤ x1 ∧ x1 < 10000) ∧ (HX3_goes_2 Q b s (i32 (x1 + 1)) f18 (upI f19 x1 0)))) : HX3_goes_2 Q b s x1 f18 f19 := by
  refine JW.iload_n dX3_goes_2 rfl ?_
  refine JW.aload_n dX3_goes_3 rfl ?_
  refine JW.mget (v := vR 358) dX3_goes_4 fX3_34 rfl ?_
  refine JW.iconst dX3_goes_7 rfl ?_
  refine JW.mald 6 (x := (s.2 6 2)) dX3_goes_8 (Nat.le_of_ble_eq_true rfl) rfl (by decide) (by decide) rfl ?_
  refine JW.icmp_ge (tgt := 25) dX3_goes_9 rfl (fun c_1 => ?_) (fun c_1 => ?_)
  · have K := K.1 c_1
    refine JW.iconst dX3_goes_25 rfl ?_
    refine JW.istore_n (ls' := [(0, vR 351), (1, vI 0)]) dX3_goes_26 (Nat.le_of_ble_eq_true rfl) rfl ?_
    exact JW.pick [0, 1] rfl K
  · have K := K.2 c_1
    refine JW.aload_n dX3_goes_12 rfl ?_
    refine JW.mget (v := vR 371) dX3_goes_13 fX3_74 rfl ?_
    refine JW.iload_n dX3_goes_16 rfl ?_
    refine JW.iconst dX3_goes_17 rfl ?_
    obtain ⟨o_2, K⟩ := K
    refine JW.mzst 19 (f := f19) dX3_goes_18 (Nat.le_of_ble_eq_true rfl) rfl o_2.1 o_2.2 (Or.inl rfl) rfl ?_
    refine JW.steq (s2 := sA (sA s 18 f18) 19 (upI f19 x1 0)) (by simp only [sA_A, sS_S, sA_S, sA_lt, sS_lt, Nat.reduceLT, id_eq] <;> rfl) ?_
    refine JW.iinc (ls' := [(0, vR 351), (1, vI (i32 (x1 + 1)))]) dX3_goes_19 (Nat.le_of_ble_eq_true rfl) rfl rfl ?_
    refine JW.goto (tgt := 2) dX3_goes_22 rfl ?_
    exact JW.pick [0, 1] rfl K
theorem bX3_goes_27 {Q : Option AV → MS → Prop} (b : AH) (s : MS) (x1 : Int) (f18 : Int → Int) (f19 : Int → Int) (K : ((s.2 6 2) ≤ x1 → HX3_goes_66 Q b s 0 f18 f19) ∧ (¬ (s.2 6 2) ≤ x1 → (0 ≤ x1 ∧ x1 < 10000) ∧ (((f18 x1) = 0 → HX3_goes_27 Q b s (i32 (x1 + 1)) f18 f19) ∧ (¬ (f18 x1) = 0 → (0 ≤ (s.2 13 x1) ∧ (s.2 13 x1) < 10000) ∧ (HX3_goes_27 Q b s (i32 (x1 + 1)) f18 (upI f19 (s.2 13 x1) 1)))))) : HX3_goes_27 Q b s x1 f18 f19 := by
  refine JW.iload_n dX3_goes_27 rfl ?_
  refine JW.aload_n dX3_goes_28 rfl ?_
  refine JW.mget (v := vR 358) dX3_goes_29 fX3_34 rfl ?_
  refine JW.iconst dX3_goes_32 rfl ?_
  refine JW.mald 6 (x := (s.2 6 2)) dX3_goes_33 (Nat.le_of_ble_eq_true rfl) rfl (by decide) (by decide) rfl ?_
  refine JW.icmp_ge (tgt := 64) dX3_goes_34 rfl (fun c_1 => ?_) (fun c_1 => ?_)
  · have K := K.1 c_1
    refine JW.iconst dX3_goes_64 rfl ?_
    refine JW.istore_n (ls' := [(0, vR 351), (1, vI 0)]) dX3_goes_65 (Nat.le_of_ble_eq_true rfl) rfl ?_
    exact JW.pick [0, 1] rfl K
  · have K := K.2 c_1
    refine JW.aload_n dX3_goes_37 rfl ?_
    refine JW.mget (v := vR 370) dX3_goes_38 fX3_71 rfl ?_
    refine JW.iload_n dX3_goes_41 rfl ?_
    obtain ⟨o_2, K⟩ := K
    refine JW.mzld 18 (x := (f18 x1)) dX3_goes_42 (Nat.le_of_ble_eq_true rfl) rfl o_2.1 o_2.2 rfl ?_
    refine JW.if_eq (tgt := 58) dX3_goes_43 rfl (fun c_3 => ?_) (fun c_3 => ?_)
    · have K := K.1 c_3
      refine JW.iinc (ls' := [(0, vR 351), (1, vI (i32 (x1 + 1)))]) dX3_goes_58 (Nat.le_of_ble_eq_true rfl) rfl rfl ?_
      refine JW.goto (tgt := 27) dX3_goes_61 rfl ?_
      exact JW.pick [0, 1] rfl K
    · have K := K.2 c_3
      refine JW.aload_n dX3_goes_46 rfl ?_
      refine JW.mget (v := vR 371) dX3_goes_47 fX3_74 rfl ?_
      refine JW.aload_n dX3_goes_50 rfl ?_
      refine JW.mget (v := vR 365) dX3_goes_51 fX3_56 rfl ?_
      refine JW.iload_n dX3_goes_54 rfl ?_
      refine JW.mald 13 (x := (s.2 13 x1)) dX3_goes_55 (Nat.le_of_ble_eq_true rfl) rfl o_2.1 o_2.2 rfl ?_
      refine JW.iconst dX3_goes_56 rfl ?_
      obtain ⟨o_4, K⟩ := K
      refine JW.mzst 19 (f := f19) dX3_goes_57 (Nat.le_of_ble_eq_true rfl) rfl o_4.1 o_4.2 (Or.inr rfl) rfl ?_
      refine JW.steq (s2 := sA (sA s 18 f18) 19 (upI f19 (s.2 13 x1) 1)) (by simp only [sA_A, sS_S, sA_S, sA_lt, sS_lt, Nat.reduceLT, id_eq] <;> rfl) ?_
      refine JW.iinc (ls' := [(0, vR 351), (1, vI (i32 (x1 + 1)))]) dX3_goes_58 (Nat.le_of_ble_eq_true rfl) rfl rfl ?_
      refine JW.goto (tgt := 27) dX3_goes_61 rfl ?_
      exact JW.pick [0, 1] rfl K
theorem bX3_goes_66 {Q : Option AV → MS → Prop} (b : AH) (s : MS) (x1 : Int) (f18 : Int → Int) (f19 : Int → Int) (K : ((s.2 6 2) ≤ x1 → Q none (sA (sA s 18 f18) 19 f19)) ∧ (¬ (s.2 6 2) ≤ x1 → (0 ≤ x1 ∧ x1 < 10000) ∧ (((f19 x1) = 0 ∨ (f19 x1) = 1) ∧ (HX3_goes_66 Q b s (i32 (x1 + 1)) (upI f18 x1 (f19 x1)) f19)))) : HX3_goes_66 Q b s x1 f18 f19 := by
  refine JW.iload_n dX3_goes_66 rfl ?_
  refine JW.aload_n dX3_goes_67 rfl ?_
  refine JW.mget (v := vR 358) dX3_goes_68 fX3_34 rfl ?_
  refine JW.iconst dX3_goes_71 rfl ?_
  refine JW.mald 6 (x := (s.2 6 2)) dX3_goes_72 (Nat.le_of_ble_eq_true rfl) rfl (by decide) (by decide) rfl ?_
  refine JW.icmp_ge (tgt := 94) dX3_goes_73 rfl (fun c_1 => ?_) (fun c_1 => ?_)
  · have K := K.1 c_1
    exact JW.vreturn dX3_goes_94 rfl ⟨_, rfl, K⟩
  · have K := K.2 c_1
    refine JW.aload_n dX3_goes_76 rfl ?_
    refine JW.mget (v := vR 370) dX3_goes_77 fX3_71 rfl ?_
    refine JW.iload_n dX3_goes_80 rfl ?_
    refine JW.aload_n dX3_goes_81 rfl ?_
    refine JW.mget (v := vR 371) dX3_goes_82 fX3_74 rfl ?_
    refine JW.iload_n dX3_goes_85 rfl ?_
    obtain ⟨o_2, K⟩ := K
    refine JW.mzld 19 (x := (f19 x1)) dX3_goes_86 (Nat.le_of_ble_eq_true rfl) rfl o_2.1 o_2.2 rfl ?_
    obtain ⟨o_3, K⟩ := K
    refine JW.mzst 18 (f := f18) dX3_goes_87 (Nat.le_of_ble_eq_true rfl) rfl o_2.1 o_2.2 o_3 rfl ?_
    refine JW.steq (s2 := sA (sA s 18 (upI f18 x1 (f19 x1))) 19 f19) (by simp only [sA_A, sS_S, sA_S, sA_lt, sS_lt, Nat.reduceLT, id_eq] <;> rfl) ?_
    refine JW.iinc (ls' := [(0, vR 351), (1, vI (i32 (x1 + 1)))]) dX3_goes_88 (Nat.le_of_ble_eq_true rfl) rfl rfl ?_
    refine JW.goto (tgt := 66) dX3_goes_91 rfl ?_
    exact JW.pick [0, 1] rfl K
def QX3_goes (s : MS) : Option AV → MS → Prop := fun v s' => ∃ (f18 : Int → Int) (f19 : Int → Int), v = none ∧ s' = sA (sA s 18 f18) 19 f19 ∧ (BS f18 ((s.2 6) 2) (stepS (s.2 13) ((s.2 6) 2) (fun y => (s.2 18) y = 1)))
theorem vX3_goes_1 (s : MS) (hp : tOK (s.2 6) ∧ rng (s.2 13) ((s.2 6) 2) ∧ ∀ z : Int, 0 ≤ z → z < (s.2 6) 2 → (s.2 18) z = 0 ∨ (s.2 18) z = 1) (x1 : Int) (f18 : Int → Int) (f19 : Int → Int) (hI : (0 ≤ x1 ∧ x1 ≤ s.2 6 2) ∧ f18 = s.2 18 ∧ ∀ z : Int, 0 ≤ z → z < x1 → f19 z = 0) (c_1 : (s.2 6 2) ≤ x1) : (0 ≤ (0 : Int) ∧ (0 : Int) ≤ s.2 6 2) ∧ f18 = s.2 18 ∧ GS (s.2 13) f19 (s.2 18) (s.2 6 2) (0 : Int) := by
  obtain ⟨ht, hg, hb⟩ := hp
  have hN := tOK_N ht
  (try have hx := hg x1 (by omega) (by omega))
  (try unfold lex3)
  (try simp only [bI_0, bI_n, Classical.not_not] at *)
  (try simp (disch := omega) only [i32_id] at *)
  first | done | omega | ((repeat' (with_reducible apply And.intro)) <;> first | assumption | rfl | omega | (exact hI.2.1) | (intro z h0 h1; omega) | (exact upto_s (p := fun z v => v = 0) hI.2.2 rfl) | (exact GS_0 (fun z a b => hI.2.2 z a (by omega))) | (have e9 : x1 = s.2 6 2 := by omega; rw [e9] at hI; exact hI.2.2) | (exact GS_n hI.2.2 (by rw [← hI.2.1]; omega)) | (exact GS_y hI.2.2 hI.1.1 (by have h9 := hb x1 (by omega) (by omega); rw [hI.2.1] at c_3; omega)) | (intro z h0 h1; rw [hI.2.2 z h0 (by omega), hI.2.1 z h0 h1]; rfl) | (rw [hI.2.1 x1 hI.1.1 (by omega)]; exact bC_01 _) | (exact upto_s (p := fun z v => v = f19 z) hI.2.2 rfl) | (exact hI.2.1) | grind [upI])
theorem vX3_goes_2 (s : MS) (hp : tOK (s.2 6) ∧ rng (s.2 13) ((s.2 6) 2) ∧ ∀ z : Int, 0 ≤ z → z < (s.2 6) 2 → (s.2 18) z = 0 ∨ (s.2 18) z = 1) (x1 : Int) (f18 : Int → Int) (f19 : Int → Int) (hI : (0 ≤ x1 ∧ x1 ≤ s.2 6 2) ∧ f18 = s.2 18 ∧ ∀ z : Int, 0 ≤ z → z < x1 → f19 z = 0) (c_1 : (s.2 6 2) ≤ x1) : lex3 0 1 ((s.2 6 2 - (0 : Int)).toNat) 0 2 ((s.2 6 2 - x1).toNat) := by
  obtain ⟨ht, hg, hb⟩ := hp
  have hN := tOK_N ht
  (try have hx := hg x1 (by omega) (by omega))
  (try unfold lex3)
  (try simp only [bI_0, bI_n, Classical.not_not] at *)
  (try simp (disch := omega) only [i32_id] at *)
  first | done | omega | ((repeat' (with_reducible apply And.intro)) <;> first | assumption | rfl | omega | (exact hI.2.1) | (intro z h0 h1; omega) | (exact upto_s (p := fun z v => v = 0) hI.2.2 rfl) | (exact GS_0 (fun z a b => hI.2.2 z a (by omega))) | (have e9 : x1 = s.2 6 2 := by omega; rw [e9] at hI; exact hI.2.2) | (exact GS_n hI.2.2 (by rw [← hI.2.1]; omega)) | (exact GS_y hI.2.2 hI.1.1 (by have h9 := hb x1 (by omega) (by omega); rw [hI.2.1] at c_3; omega)) | (intro z h0 h1; rw [hI.2.2 z h0 (by omega), hI.2.1 z h0 h1]; rfl) | (rw [hI.2.1 x1 hI.1.1 (by omega)]; exact bC_01 _) | (exact upto_s (p := fun z v => v = f19 z) hI.2.2 rfl) | (exact hI.2.1) | grind [upI])
theorem vX3_goes_3 (s : MS) (hp : tOK (s.2 6) ∧ rng (s.2 13) ((s.2 6) 2) ∧ ∀ z : Int, 0 ≤ z → z < (s.2 6) 2 → (s.2 18) z = 0 ∨ (s.2 18) z = 1) (x1 : Int) (f18 : Int → Int) (f19 : Int → Int) (hI : (0 ≤ x1 ∧ x1 ≤ s.2 6 2) ∧ f18 = s.2 18 ∧ ∀ z : Int, 0 ≤ z → z < x1 → f19 z = 0) (c_1 : ¬ (s.2 6 2) ≤ x1) : (0 ≤ x1 ∧ x1 < 10000) := by
  obtain ⟨ht, hg, hb⟩ := hp
  have hN := tOK_N ht
  (try have hx := hg x1 (by omega) (by omega))
  (try unfold lex3)
  (try simp only [bI_0, bI_n, Classical.not_not] at *)
  (try simp (disch := omega) only [i32_id] at *)
  first | done | omega | ((repeat' (with_reducible apply And.intro)) <;> first | assumption | rfl | omega | (exact hI.2.1) | (intro z h0 h1; omega) | (exact upto_s (p := fun z v => v = 0) hI.2.2 rfl) | (exact GS_0 (fun z a b => hI.2.2 z a (by omega))) | (have e9 : x1 = s.2 6 2 := by omega; rw [e9] at hI; exact hI.2.2) | (exact GS_n hI.2.2 (by rw [← hI.2.1]; omega)) | (exact GS_y hI.2.2 hI.1.1 (by have h9 := hb x1 (by omega) (by omega); rw [hI.2.1] at c_3; omega)) | (intro z h0 h1; rw [hI.2.2 z h0 (by omega), hI.2.1 z h0 h1]; rfl) | (rw [hI.2.1 x1 hI.1.1 (by omega)]; exact bC_01 _) | (exact upto_s (p := fun z v => v = f19 z) hI.2.2 rfl) | (exact hI.2.1) | grind [upI])
theorem vX3_goes_4 (s : MS) (hp : tOK (s.2 6) ∧ rng (s.2 13) ((s.2 6) 2) ∧ ∀ z : Int, 0 ≤ z → z < (s.2 6) 2 → (s.2 18) z = 0 ∨ (s.2 18) z = 1) (x1 : Int) (f18 : Int → Int) (f19 : Int → Int) (hI : (0 ≤ x1 ∧ x1 ≤ s.2 6 2) ∧ f18 = s.2 18 ∧ ∀ z : Int, 0 ≤ z → z < x1 → f19 z = 0) (c_1 : ¬ (s.2 6 2) ≤ x1) (o_2 : (0 ≤ x1 ∧ x1 < 10000)) : (0 ≤ (i32 (x1 + 1)) ∧ (i32 (x1 + 1)) ≤ s.2 6 2) ∧ f18 = s.2 18 ∧ ∀ z : Int, 0 ≤ z → z < (i32 (x1 + 1)) → (upI f19 x1 0) z = 0 := by
  obtain ⟨ht, hg, hb⟩ := hp
  have hN := tOK_N ht
  (try have hx := hg x1 (by omega) (by omega))
  (try unfold lex3)
  (try simp only [bI_0, bI_n, Classical.not_not] at *)
  (try simp (disch := omega) only [i32_id] at *)
  first | done | omega | ((repeat' (with_reducible apply And.intro)) <;> first | assumption | rfl | omega | (exact hI.2.1) | (intro z h0 h1; omega) | (exact upto_s (p := fun z v => v = 0) hI.2.2 rfl) | (exact GS_0 (fun z a b => hI.2.2 z a (by omega))) | (have e9 : x1 = s.2 6 2 := by omega; rw [e9] at hI; exact hI.2.2) | (exact GS_n hI.2.2 (by rw [← hI.2.1]; omega)) | (exact GS_y hI.2.2 hI.1.1 (by have h9 := hb x1 (by omega) (by omega); rw [hI.2.1] at c_3; omega)) | (intro z h0 h1; rw [hI.2.2 z h0 (by omega), hI.2.1 z h0 h1]; rfl) | (rw [hI.2.1 x1 hI.1.1 (by omega)]; exact bC_01 _) | (exact upto_s (p := fun z v => v = f19 z) hI.2.2 rfl) | (exact hI.2.1) | grind [upI])
theorem vX3_goes_5 (s : MS) (hp : tOK (s.2 6) ∧ rng (s.2 13) ((s.2 6) 2) ∧ ∀ z : Int, 0 ≤ z → z < (s.2 6) 2 → (s.2 18) z = 0 ∨ (s.2 18) z = 1) (x1 : Int) (f18 : Int → Int) (f19 : Int → Int) (hI : (0 ≤ x1 ∧ x1 ≤ s.2 6 2) ∧ f18 = s.2 18 ∧ ∀ z : Int, 0 ≤ z → z < x1 → f19 z = 0) (c_1 : ¬ (s.2 6 2) ≤ x1) (o_2 : (0 ≤ x1 ∧ x1 < 10000)) : lex3 0 2 ((s.2 6 2 - (i32 (x1 + 1))).toNat) 0 2 ((s.2 6 2 - x1).toNat) := by
  obtain ⟨ht, hg, hb⟩ := hp
  have hN := tOK_N ht
  (try have hx := hg x1 (by omega) (by omega))
  (try unfold lex3)
  (try simp only [bI_0, bI_n, Classical.not_not] at *)
  (try simp (disch := omega) only [i32_id] at *)
  first | done | omega | ((repeat' (with_reducible apply And.intro)) <;> first | assumption | rfl | omega | (exact hI.2.1) | (intro z h0 h1; omega) | (exact upto_s (p := fun z v => v = 0) hI.2.2 rfl) | (exact GS_0 (fun z a b => hI.2.2 z a (by omega))) | (have e9 : x1 = s.2 6 2 := by omega; rw [e9] at hI; exact hI.2.2) | (exact GS_n hI.2.2 (by rw [← hI.2.1]; omega)) | (exact GS_y hI.2.2 hI.1.1 (by have h9 := hb x1 (by omega) (by omega); rw [hI.2.1] at c_3; omega)) | (intro z h0 h1; rw [hI.2.2 z h0 (by omega), hI.2.1 z h0 h1]; rfl) | (rw [hI.2.1 x1 hI.1.1 (by omega)]; exact bC_01 _) | (exact upto_s (p := fun z v => v = f19 z) hI.2.2 rfl) | (exact hI.2.1) | grind [upI])
theorem vX3_goes_6 (s : MS) (hp : tOK (s.2 6) ∧ rng (s.2 13) ((s.2 6) 2) ∧ ∀ z : Int, 0 ≤ z → z < (s.2 6) 2 → (s.2 18) z = 0 ∨ (s.2 18) z = 1) (x1 : Int) (f18 : Int → Int) (f19 : Int → Int) (hI : (0 ≤ x1 ∧ x1 ≤ s.2 6 2) ∧ f18 = s.2 18 ∧ GS (s.2 13) f19 (s.2 18) (s.2 6 2) x1) (c_1 : (s.2 6 2) ≤ x1) : (0 ≤ (0 : Int) ∧ (0 : Int) ≤ s.2 6 2) ∧ GS (s.2 13) f19 (s.2 18) (s.2 6 2) (s.2 6 2) ∧ ∀ z : Int, 0 ≤ z → z < (0 : Int) → f18 z = f19 z := by
  obtain ⟨ht, hg, hb⟩ := hp
  have hN := tOK_N ht
  (try have hx := hg x1 (by omega) (by omega))
  (try unfold lex3)
  (try simp only [bI_0, bI_n, Classical.not_not] at *)
  (try simp (disch := omega) only [i32_id] at *)
  first | done | omega | ((repeat' (with_reducible apply And.intro)) <;> first | assumption | rfl | omega | (exact hI.2.1) | (intro z h0 h1; omega) | (exact upto_s (p := fun z v => v = 0) hI.2.2 rfl) | (exact GS_0 (fun z a b => hI.2.2 z a (by omega))) | (have e9 : x1 = s.2 6 2 := by omega; rw [e9] at hI; exact hI.2.2) | (exact GS_n hI.2.2 (by rw [← hI.2.1]; omega)) | (exact GS_y hI.2.2 hI.1.1 (by have h9 := hb x1 (by omega) (by omega); rw [hI.2.1] at c_3; omega)) | (intro z h0 h1; rw [hI.2.2 z h0 (by omega), hI.2.1 z h0 h1]; rfl) | (rw [hI.2.1 x1 hI.1.1 (by omega)]; exact bC_01 _) | (exact upto_s (p := fun z v => v = f19 z) hI.2.2 rfl) | (exact hI.2.1) | grind [upI])
theorem vX3_goes_7 (s : MS) (hp : tOK (s.2 6) ∧ rng (s.2 13) ((s.2 6) 2) ∧ ∀ z : Int, 0 ≤ z → z < (s.2 6) 2 → (s.2 18) z = 0 ∨ (s.2 18) z = 1) (x1 : Int) (f18 : Int → Int) (f19 : Int → Int) (hI : (0 ≤ x1 ∧ x1 ≤ s.2 6 2) ∧ f18 = s.2 18 ∧ GS (s.2 13) f19 (s.2 18) (s.2 6 2) x1) (c_1 : (s.2 6 2) ≤ x1) : lex3 0 0 ((s.2 6 2 - (0 : Int)).toNat) 0 1 ((s.2 6 2 - x1).toNat) := by
  obtain ⟨ht, hg, hb⟩ := hp
  have hN := tOK_N ht
  (try have hx := hg x1 (by omega) (by omega))
  (try unfold lex3)
  (try simp only [bI_0, bI_n, Classical.not_not] at *)
  (try simp (disch := omega) only [i32_id] at *)
  first | done | omega | ((repeat' (with_reducible apply And.intro)) <;> first | assumption | rfl | omega | (exact hI.2.1) | (intro z h0 h1; omega) | (exact upto_s (p := fun z v => v = 0) hI.2.2 rfl) | (exact GS_0 (fun z a b => hI.2.2 z a (by omega))) | (have e9 : x1 = s.2 6 2 := by omega; rw [e9] at hI; exact hI.2.2) | (exact GS_n hI.2.2 (by rw [← hI.2.1]; omega)) | (exact GS_y hI.2.2 hI.1.1 (by have h9 := hb x1 (by omega) (by omega); rw [hI.2.1] at c_3; omega)) | (intro z h0 h1; rw [hI.2.2 z h0 (by omega), hI.2.1 z h0 h1]; rfl) | (rw [hI.2.1 x1 hI.1.1 (by omega)]; exact bC_01 _) | (exact upto_s (p := fun z v => v = f19 z) hI.2.2 rfl) | (exact hI.2.1) | grind [upI])
theorem vX3_goes_8 (s : MS) (hp : tOK (s.2 6) ∧ rng (s.2 13) ((s.2 6) 2) ∧ ∀ z : Int, 0 ≤ z → z < (s.2 6) 2 → (s.2 18) z = 0 ∨ (s.2 18) z = 1) (x1 : Int) (f18 : Int → Int) (f19 : Int → Int) (hI : (0 ≤ x1 ∧ x1 ≤ s.2 6 2) ∧ f18 = s.2 18 ∧ GS (s.2 13) f19 (s.2 18) (s.2 6 2) x1) (c_1 : ¬ (s.2 6 2) ≤ x1) : (0 ≤ x1 ∧ x1 < 10000) := by
  obtain ⟨ht, hg, hb⟩ := hp
  have hN := tOK_N ht
  (try have hx := hg x1 (by omega) (by omega))
  (try unfold lex3)
  (try simp only [bI_0, bI_n, Classical.not_not] at *)
  (try simp (disch := omega) only [i32_id] at *)
  first | done | omega | ((repeat' (with_reducible apply And.intro)) <;> first | assumption | rfl | omega | (exact hI.2.1) | (intro z h0 h1; omega) | (exact upto_s (p := fun z v => v = 0) hI.2.2 rfl) | (exact GS_0 (fun z a b => hI.2.2 z a (by omega))) | (have e9 : x1 = s.2 6 2 := by omega; rw [e9] at hI; exact hI.2.2) | (exact GS_n hI.2.2 (by rw [← hI.2.1]; omega)) | (exact GS_y hI.2.2 hI.1.1 (by have h9 := hb x1 (by omega) (by omega); rw [hI.2.1] at c_3; omega)) | (intro z h0 h1; rw [hI.2.2 z h0 (by omega), hI.2.1 z h0 h1]; rfl) | (rw [hI.2.1 x1 hI.1.1 (by omega)]; exact bC_01 _) | (exact upto_s (p := fun z v => v = f19 z) hI.2.2 rfl) | (exact hI.2.1) | grind [upI])
theorem vX3_goes_9 (s : MS) (hp : tOK (s.2 6) ∧ rng (s.2 13) ((s.2 6) 2) ∧ ∀ z : Int, 0 ≤ z → z < (s.2 6) 2 → (s.2 18) z = 0 ∨ (s.2 18) z = 1) (x1 : Int) (f18 : Int → Int) (f19 : Int → Int) (hI : (0 ≤ x1 ∧ x1 ≤ s.2 6 2) ∧ f18 = s.2 18 ∧ GS (s.2 13) f19 (s.2 18) (s.2 6 2) x1) (c_1 : ¬ (s.2 6 2) ≤ x1) (o_2 : (0 ≤ x1 ∧ x1 < 10000)) (c_3 : (f18 x1) = 0) : (0 ≤ (i32 (x1 + 1)) ∧ (i32 (x1 + 1)) ≤ s.2 6 2) ∧ f18 = s.2 18 ∧ GS (s.2 13) f19 (s.2 18) (s.2 6 2) (i32 (x1 + 1)) := by
  obtain ⟨ht, hg, hb⟩ := hp
  have hN := tOK_N ht
  (try have hx := hg x1 (by omega) (by omega))
  (try unfold lex3)
  (try simp only [bI_0, bI_n, Classical.not_not] at *)
  (try simp (disch := omega) only [i32_id] at *)
  first | done | omega | ((repeat' (with_reducible apply And.intro)) <;> first | assumption | rfl | omega | (exact hI.2.1) | (intro z h0 h1; omega) | (exact upto_s (p := fun z v => v = 0) hI.2.2 rfl) | (exact GS_0 (fun z a b => hI.2.2 z a (by omega))) | (have e9 : x1 = s.2 6 2 := by omega; rw [e9] at hI; exact hI.2.2) | (exact GS_n hI.2.2 (by rw [← hI.2.1]; omega)) | (exact GS_y hI.2.2 hI.1.1 (by have h9 := hb x1 (by omega) (by omega); rw [hI.2.1] at c_3; omega)) | (intro z h0 h1; rw [hI.2.2 z h0 (by omega), hI.2.1 z h0 h1]; rfl) | (rw [hI.2.1 x1 hI.1.1 (by omega)]; exact bC_01 _) | (exact upto_s (p := fun z v => v = f19 z) hI.2.2 rfl) | (exact hI.2.1) | grind [upI])
theorem vX3_goes_10 (s : MS) (hp : tOK (s.2 6) ∧ rng (s.2 13) ((s.2 6) 2) ∧ ∀ z : Int, 0 ≤ z → z < (s.2 6) 2 → (s.2 18) z = 0 ∨ (s.2 18) z = 1) (x1 : Int) (f18 : Int → Int) (f19 : Int → Int) (hI : (0 ≤ x1 ∧ x1 ≤ s.2 6 2) ∧ f18 = s.2 18 ∧ GS (s.2 13) f19 (s.2 18) (s.2 6 2) x1) (c_1 : ¬ (s.2 6 2) ≤ x1) (o_2 : (0 ≤ x1 ∧ x1 < 10000)) (c_3 : (f18 x1) = 0) : lex3 0 1 ((s.2 6 2 - (i32 (x1 + 1))).toNat) 0 1 ((s.2 6 2 - x1).toNat) := by
  obtain ⟨ht, hg, hb⟩ := hp
  have hN := tOK_N ht
  (try have hx := hg x1 (by omega) (by omega))
  (try unfold lex3)
  (try simp only [bI_0, bI_n, Classical.not_not] at *)
  (try simp (disch := omega) only [i32_id] at *)
  first | done | omega | ((repeat' (with_reducible apply And.intro)) <;> first | assumption | rfl | omega | (exact hI.2.1) | (intro z h0 h1; omega) | (exact upto_s (p := fun z v => v = 0) hI.2.2 rfl) | (exact GS_0 (fun z a b => hI.2.2 z a (by omega))) | (have e9 : x1 = s.2 6 2 := by omega; rw [e9] at hI; exact hI.2.2) | (exact GS_n hI.2.2 (by rw [← hI.2.1]; omega)) | (exact GS_y hI.2.2 hI.1.1 (by have h9 := hb x1 (by omega) (by omega); rw [hI.2.1] at c_3; omega)) | (intro z h0 h1; rw [hI.2.2 z h0 (by omega), hI.2.1 z h0 h1]; rfl) | (rw [hI.2.1 x1 hI.1.1 (by omega)]; exact bC_01 _) | (exact upto_s (p := fun z v => v = f19 z) hI.2.2 rfl) | (exact hI.2.1) | grind [upI])
theorem vX3_goes_11 (s : MS) (hp : tOK (s.2 6) ∧ rng (s.2 13) ((s.2 6) 2) ∧ ∀ z : Int, 0 ≤ z → z < (s.2 6) 2 → (s.2 18) z = 0 ∨ (s.2 18) z = 1) (x1 : Int) (f18 : Int → Int) (f19 : Int → Int) (hI : (0 ≤ x1 ∧ x1 ≤ s.2 6 2) ∧ f18 = s.2 18 ∧ GS (s.2 13) f19 (s.2 18) (s.2 6 2) x1) (c_1 : ¬ (s.2 6 2) ≤ x1) (o_2 : (0 ≤ x1 ∧ x1 < 10000)) (c_3 : ¬ (f18 x1) = 0) : (0 ≤ (s.2 13 x1) ∧ (s.2 13 x1) < 10000) := by
  obtain ⟨ht, hg, hb⟩ := hp
  have hN := tOK_N ht
  (try have hx := hg x1 (by omega) (by omega))
  (try unfold lex3)
  (try simp only [bI_0, bI_n, Classical.not_not] at *)
  (try simp (disch := omega) only [i32_id] at *)
  first | done | omega | ((repeat' (with_reducible apply And.intro)) <;> first | assumption | rfl | omega | (exact hI.2.1) | (intro z h0 h1; omega) | (exact upto_s (p := fun z v => v = 0) hI.2.2 rfl) | (exact GS_0 (fun z a b => hI.2.2 z a (by omega))) | (have e9 : x1 = s.2 6 2 := by omega; rw [e9] at hI; exact hI.2.2) | (exact GS_n hI.2.2 (by rw [← hI.2.1]; omega)) | (exact GS_y hI.2.2 hI.1.1 (by have h9 := hb x1 (by omega) (by omega); rw [hI.2.1] at c_3; omega)) | (intro z h0 h1; rw [hI.2.2 z h0 (by omega), hI.2.1 z h0 h1]; rfl) | (rw [hI.2.1 x1 hI.1.1 (by omega)]; exact bC_01 _) | (exact upto_s (p := fun z v => v = f19 z) hI.2.2 rfl) | (exact hI.2.1) | grind [upI])
theorem vX3_goes_12 (s : MS) (hp : tOK (s.2 6) ∧ rng (s.2 13) ((s.2 6) 2) ∧ ∀ z : Int, 0 ≤ z → z < (s.2 6) 2 → (s.2 18) z = 0 ∨ (s.2 18) z = 1) (x1 : Int) (f18 : Int → Int) (f19 : Int → Int) (hI : (0 ≤ x1 ∧ x1 ≤ s.2 6 2) ∧ f18 = s.2 18 ∧ GS (s.2 13) f19 (s.2 18) (s.2 6 2) x1) (c_1 : ¬ (s.2 6 2) ≤ x1) (o_2 : (0 ≤ x1 ∧ x1 < 10000)) (c_3 : ¬ (f18 x1) = 0) (o_4 : (0 ≤ (s.2 13 x1) ∧ (s.2 13 x1) < 10000)) : (0 ≤ (i32 (x1 + 1)) ∧ (i32 (x1 + 1)) ≤ s.2 6 2) ∧ f18 = s.2 18 ∧ GS (s.2 13) (upI f19 (s.2 13 x1) 1) (s.2 18) (s.2 6 2) (i32 (x1 + 1)) := by
  obtain ⟨ht, hg, hb⟩ := hp
  have hN := tOK_N ht
  (try have hx := hg x1 (by omega) (by omega))
  (try unfold lex3)
  (try simp only [bI_0, bI_n, Classical.not_not] at *)
  (try simp (disch := omega) only [i32_id] at *)
  first | done | omega | ((repeat' (with_reducible apply And.intro)) <;> first | assumption | rfl | omega | (exact hI.2.1) | (intro z h0 h1; omega) | (exact upto_s (p := fun z v => v = 0) hI.2.2 rfl) | (exact GS_0 (fun z a b => hI.2.2 z a (by omega))) | (have e9 : x1 = s.2 6 2 := by omega; rw [e9] at hI; exact hI.2.2) | (exact GS_n hI.2.2 (by rw [← hI.2.1]; omega)) | (exact GS_y hI.2.2 hI.1.1 (by have h9 := hb x1 (by omega) (by omega); rw [hI.2.1] at c_3; omega)) | (intro z h0 h1; rw [hI.2.2 z h0 (by omega), hI.2.1 z h0 h1]; rfl) | (rw [hI.2.1 x1 hI.1.1 (by omega)]; exact bC_01 _) | (exact upto_s (p := fun z v => v = f19 z) hI.2.2 rfl) | (exact hI.2.1) | grind [upI])
theorem vX3_goes_13 (s : MS) (hp : tOK (s.2 6) ∧ rng (s.2 13) ((s.2 6) 2) ∧ ∀ z : Int, 0 ≤ z → z < (s.2 6) 2 → (s.2 18) z = 0 ∨ (s.2 18) z = 1) (x1 : Int) (f18 : Int → Int) (f19 : Int → Int) (hI : (0 ≤ x1 ∧ x1 ≤ s.2 6 2) ∧ f18 = s.2 18 ∧ GS (s.2 13) f19 (s.2 18) (s.2 6 2) x1) (c_1 : ¬ (s.2 6 2) ≤ x1) (o_2 : (0 ≤ x1 ∧ x1 < 10000)) (c_3 : ¬ (f18 x1) = 0) (o_4 : (0 ≤ (s.2 13 x1) ∧ (s.2 13 x1) < 10000)) : lex3 0 1 ((s.2 6 2 - (i32 (x1 + 1))).toNat) 0 1 ((s.2 6 2 - x1).toNat) := by
  obtain ⟨ht, hg, hb⟩ := hp
  have hN := tOK_N ht
  (try have hx := hg x1 (by omega) (by omega))
  (try unfold lex3)
  (try simp only [bI_0, bI_n, Classical.not_not] at *)
  (try simp (disch := omega) only [i32_id] at *)
  first | done | omega | ((repeat' (with_reducible apply And.intro)) <;> first | assumption | rfl | omega | (exact hI.2.1) | (intro z h0 h1; omega) | (exact upto_s (p := fun z v => v = 0) hI.2.2 rfl) | (exact GS_0 (fun z a b => hI.2.2 z a (by omega))) | (have e9 : x1 = s.2 6 2 := by omega; rw [e9] at hI; exact hI.2.2) | (exact GS_n hI.2.2 (by rw [← hI.2.1]; omega)) | (exact GS_y hI.2.2 hI.1.1 (by have h9 := hb x1 (by omega) (by omega); rw [hI.2.1] at c_3; omega)) | (intro z h0 h1; rw [hI.2.2 z h0 (by omega), hI.2.1 z h0 h1]; rfl) | (rw [hI.2.1 x1 hI.1.1 (by omega)]; exact bC_01 _) | (exact upto_s (p := fun z v => v = f19 z) hI.2.2 rfl) | (exact hI.2.1) | grind [upI])
theorem vX3_goes_14 (s : MS) (hp : tOK (s.2 6) ∧ rng (s.2 13) ((s.2 6) 2) ∧ ∀ z : Int, 0 ≤ z → z < (s.2 6) 2 → (s.2 18) z = 0 ∨ (s.2 18) z = 1) (x1 : Int) (f18 : Int → Int) (f19 : Int → Int) (hI : (0 ≤ x1 ∧ x1 ≤ s.2 6 2) ∧ GS (s.2 13) f19 (s.2 18) (s.2 6 2) (s.2 6 2) ∧ ∀ z : Int, 0 ≤ z → z < x1 → f18 z = f19 z) (c_1 : (s.2 6 2) ≤ x1) : BS f18 ((s.2 6) 2) (stepS (s.2 13) ((s.2 6) 2) (fun y => (s.2 18) y = 1)) := by
  obtain ⟨ht, hg, hb⟩ := hp
  have hN := tOK_N ht
  (try have hx := hg x1 (by omega) (by omega))
  (try unfold lex3)
  (try simp only [bI_0, bI_n, Classical.not_not] at *)
  (try simp (disch := omega) only [i32_id] at *)
  first | done | omega | ((repeat' (with_reducible apply And.intro)) <;> first | assumption | rfl | omega | (exact hI.2.1) | (intro z h0 h1; omega) | (exact upto_s (p := fun z v => v = 0) hI.2.2 rfl) | (exact GS_0 (fun z a b => hI.2.2 z a (by omega))) | (have e9 : x1 = s.2 6 2 := by omega; rw [e9] at hI; exact hI.2.2) | (exact GS_n hI.2.2 (by rw [← hI.2.1]; omega)) | (exact GS_y hI.2.2 hI.1.1 (by have h9 := hb x1 (by omega) (by omega); rw [hI.2.1] at c_3; omega)) | (intro z h0 h1; rw [hI.2.2 z h0 (by omega), hI.2.1 z h0 h1]; rfl) | (rw [hI.2.1 x1 hI.1.1 (by omega)]; exact bC_01 _) | (exact upto_s (p := fun z v => v = f19 z) hI.2.2 rfl) | (exact hI.2.1) | grind [upI])
theorem vX3_goes_15 (s : MS) (hp : tOK (s.2 6) ∧ rng (s.2 13) ((s.2 6) 2) ∧ ∀ z : Int, 0 ≤ z → z < (s.2 6) 2 → (s.2 18) z = 0 ∨ (s.2 18) z = 1) (x1 : Int) (f18 : Int → Int) (f19 : Int → Int) (hI : (0 ≤ x1 ∧ x1 ≤ s.2 6 2) ∧ GS (s.2 13) f19 (s.2 18) (s.2 6 2) (s.2 6 2) ∧ ∀ z : Int, 0 ≤ z → z < x1 → f18 z = f19 z) (c_1 : ¬ (s.2 6 2) ≤ x1) : (0 ≤ x1 ∧ x1 < 10000) := by
  obtain ⟨ht, hg, hb⟩ := hp
  have hN := tOK_N ht
  (try have hx := hg x1 (by omega) (by omega))
  (try unfold lex3)
  (try simp only [bI_0, bI_n, Classical.not_not] at *)
  (try simp (disch := omega) only [i32_id] at *)
  first | done | omega | ((repeat' (with_reducible apply And.intro)) <;> first | assumption | rfl | omega | (exact hI.2.1) | (intro z h0 h1; omega) | (exact upto_s (p := fun z v => v = 0) hI.2.2 rfl) | (exact GS_0 (fun z a b => hI.2.2 z a (by omega))) | (have e9 : x1 = s.2 6 2 := by omega; rw [e9] at hI; exact hI.2.2) | (exact GS_n hI.2.2 (by rw [← hI.2.1]; omega)) | (exact GS_y hI.2.2 hI.1.1 (by have h9 := hb x1 (by omega) (by omega); rw [hI.2.1] at c_3; omega)) | (intro z h0 h1; rw [hI.2.2 z h0 (by omega), hI.2.1 z h0 h1]; rfl) | (rw [hI.2.1 x1 hI.1.1 (by omega)]; exact bC_01 _) | (exact upto_s (p := fun z v => v = f19 z) hI.2.2 rfl) | (exact hI.2.1) | grind [upI])
theorem vX3_goes_16 (s : MS) (hp : tOK (s.2 6) ∧ rng (s.2 13) ((s.2 6) 2) ∧ ∀ z : Int, 0 ≤ z → z < (s.2 6) 2 → (s.2 18) z = 0 ∨ (s.2 18) z = 1) (x1 : Int) (f18 : Int → Int) (f19 : Int → Int) (hI : (0 ≤ x1 ∧ x1 ≤ s.2 6 2) ∧ GS (s.2 13) f19 (s.2 18) (s.2 6 2) (s.2 6 2) ∧ ∀ z : Int, 0 ≤ z → z < x1 → f18 z = f19 z) (c_1 : ¬ (s.2 6 2) ≤ x1) (o_2 : (0 ≤ x1 ∧ x1 < 10000)) : ((f19 x1) = 0 ∨ (f19 x1) = 1) := by
  obtain ⟨ht, hg, hb⟩ := hp
  have hN := tOK_N ht
  (try have hx := hg x1 (by omega) (by omega))
  (try unfold lex3)
  (try simp only [bI_0, bI_n, Classical.not_not] at *)
  (try simp (disch := omega) only [i32_id] at *)
  first | done | omega | ((repeat' (with_reducible apply And.intro)) <;> first | assumption | rfl | omega | (exact hI.2.1) | (intro z h0 h1; omega) | (exact upto_s (p := fun z v => v = 0) hI.2.2 rfl) | (exact GS_0 (fun z a b => hI.2.2 z a (by omega))) | (have e9 : x1 = s.2 6 2 := by omega; rw [e9] at hI; exact hI.2.2) | (exact GS_n hI.2.2 (by rw [← hI.2.1]; omega)) | (exact GS_y hI.2.2 hI.1.1 (by have h9 := hb x1 (by omega) (by omega); rw [hI.2.1] at c_3; omega)) | (intro z h0 h1; rw [hI.2.2 z h0 (by omega), hI.2.1 z h0 h1]; rfl) | (rw [hI.2.1 x1 hI.1.1 (by omega)]; exact bC_01 _) | (exact upto_s (p := fun z v => v = f19 z) hI.2.2 rfl) | (exact hI.2.1) | grind [upI])
theorem vX3_goes_17 (s : MS) (hp : tOK (s.2 6) ∧ rng (s.2 13) ((s.2 6) 2) ∧ ∀ z : Int, 0 ≤ z → z < (s.2 6) 2 → (s.2 18) z = 0 ∨ (s.2 18) z = 1) (x1 : Int) (f18 : Int → Int) (f19 : Int → Int) (hI : (0 ≤ x1 ∧ x1 ≤ s.2 6 2) ∧ GS (s.2 13) f19 (s.2 18) (s.2 6 2) (s.2 6 2) ∧ ∀ z : Int, 0 ≤ z → z < x1 → f18 z = f19 z) (c_1 : ¬ (s.2 6 2) ≤ x1) (o_2 : (0 ≤ x1 ∧ x1 < 10000)) (o_3 : ((f19 x1) = 0 ∨ (f19 x1) = 1)) : (0 ≤ (i32 (x1 + 1)) ∧ (i32 (x1 + 1)) ≤ s.2 6 2) ∧ GS (s.2 13) f19 (s.2 18) (s.2 6 2) (s.2 6 2) ∧ ∀ z : Int, 0 ≤ z → z < (i32 (x1 + 1)) → (upI f18 x1 (f19 x1)) z = f19 z := by
  obtain ⟨ht, hg, hb⟩ := hp
  have hN := tOK_N ht
  (try have hx := hg x1 (by omega) (by omega))
  (try unfold lex3)
  (try simp only [bI_0, bI_n, Classical.not_not] at *)
  (try simp (disch := omega) only [i32_id] at *)
  first | done | omega | ((repeat' (with_reducible apply And.intro)) <;> first | assumption | rfl | omega | (exact hI.2.1) | (intro z h0 h1; omega) | (exact upto_s (p := fun z v => v = 0) hI.2.2 rfl) | (exact GS_0 (fun z a b => hI.2.2 z a (by omega))) | (have e9 : x1 = s.2 6 2 := by omega; rw [e9] at hI; exact hI.2.2) | (exact GS_n hI.2.2 (by rw [← hI.2.1]; omega)) | (exact GS_y hI.2.2 hI.1.1 (by have h9 := hb x1 (by omega) (by omega); rw [hI.2.1] at c_3; omega)) | (intro z h0 h1; rw [hI.2.2 z h0 (by omega), hI.2.1 z h0 h1]; rfl) | (rw [hI.2.1 x1 hI.1.1 (by omega)]; exact bC_01 _) | (exact upto_s (p := fun z v => v = f19 z) hI.2.2 rfl) | (exact hI.2.1) | grind [upI])
theorem vX3_goes_18 (s : MS) (hp : tOK (s.2 6) ∧ rng (s.2 13) ((s.2 6) 2) ∧ ∀ z : Int, 0 ≤ z → z < (s.2 6) 2 → (s.2 18) z = 0 ∨ (s.2 18) z = 1) (x1 : Int) (f18 : Int → Int) (f19 : Int → Int) (hI : (0 ≤ x1 ∧ x1 ≤ s.2 6 2) ∧ GS (s.2 13) f19 (s.2 18) (s.2 6 2) (s.2 6 2) ∧ ∀ z : Int, 0 ≤ z → z < x1 → f18 z = f19 z) (c_1 : ¬ (s.2 6 2) ≤ x1) (o_2 : (0 ≤ x1 ∧ x1 < 10000)) (o_3 : ((f19 x1) = 0 ∨ (f19 x1) = 1)) : lex3 0 0 ((s.2 6 2 - (i32 (x1 + 1))).toNat) 0 0 ((s.2 6 2 - x1).toNat) := by
  obtain ⟨ht, hg, hb⟩ := hp
  have hN := tOK_N ht
  (try have hx := hg x1 (by omega) (by omega))
  (try unfold lex3)
  (try simp only [bI_0, bI_n, Classical.not_not] at *)
  (try simp (disch := omega) only [i32_id] at *)
  first | done | omega | ((repeat' (with_reducible apply And.intro)) <;> first | assumption | rfl | omega | (exact hI.2.1) | (intro z h0 h1; omega) | (exact upto_s (p := fun z v => v = 0) hI.2.2 rfl) | (exact GS_0 (fun z a b => hI.2.2 z a (by omega))) | (have e9 : x1 = s.2 6 2 := by omega; rw [e9] at hI; exact hI.2.2) | (exact GS_n hI.2.2 (by rw [← hI.2.1]; omega)) | (exact GS_y hI.2.2 hI.1.1 (by have h9 := hb x1 (by omega) (by omega); rw [hI.2.1] at c_3; omega)) | (intro z h0 h1; rw [hI.2.2 z h0 (by omega), hI.2.1 z h0 h1]; rfl) | (rw [hI.2.1 x1 hI.1.1 (by omega)]; exact bC_01 _) | (exact upto_s (p := fun z v => v = f19 z) hI.2.2 rfl) | (exact hI.2.1) | grind [upI])
theorem vX3_goes_19 (s : MS) (hp : tOK (s.2 6) ∧ rng (s.2 13) ((s.2 6) 2) ∧ ∀ z : Int, 0 ≤ z → z < (s.2 6) 2 → (s.2 18) z = 0 ∨ (s.2 18) z = 1) : (0 ≤ (0 : Int) ∧ (0 : Int) ≤ s.2 6 2) ∧ (s.2 18) = s.2 18 ∧ ∀ z : Int, 0 ≤ z → z < (0 : Int) → (s.2 19) z = 0 := by
  obtain ⟨ht, hg, hb⟩ := hp
  have hN := tOK_N ht
  (try have hx := hg x1 (by omega) (by omega))
  (try unfold lex3)
  (try simp only [bI_0, bI_n, Classical.not_not] at *)
  (try simp (disch := omega) only [i32_id] at *)
  first | done | omega | ((repeat' (with_reducible apply And.intro)) <;> first | assumption | rfl | omega | (exact hI.2.1) | (intro z h0 h1; omega) | (exact upto_s (p := fun z v => v = 0) hI.2.2 rfl) | (exact GS_0 (fun z a b => hI.2.2 z a (by omega))) | (have e9 : x1 = s.2 6 2 := by omega; rw [e9] at hI; exact hI.2.2) | (exact GS_n hI.2.2 (by rw [← hI.2.1]; omega)) | (exact GS_y hI.2.2 hI.1.1 (by have h9 := hb x1 (by omega) (by omega); rw [hI.2.1] at c_3; omega)) | (intro z h0 h1; rw [hI.2.2 z h0 (by omega), hI.2.1 z h0 h1]; rfl) | (rw [hI.2.1 x1 hI.1.1 (by omega)]; exact bC_01 _) | (exact upto_s (p := fun z v => v = f19 z) hI.2.2 rfl) | (exact hI.2.1) | grind [upI])
theorem allX3_goes (b : AH) (s : MS) (hp : tOK (s.2 6) ∧ rng (s.2 13) ((s.2 6) 2) ∧ ∀ z : Int, 0 ≤ z → z < (s.2 6) 2 → (s.2 18) z = 0 ∨ (s.2 18) z = 1) : ∀ m1 m2 m3 : Nat, (∀ (x1 : Int) (f18 : Int → Int) (f19 : Int → Int), m1 = 0 → m2 = 2 → m3 = ((s.2 6 2 - x1).toNat) → ((0 ≤ x1 ∧ x1 ≤ s.2 6 2) ∧ f18 = s.2 18 ∧ ∀ z : Int, 0 ≤ z → z < x1 → f19 z = 0) → HX3_goes_2 (QX3_goes s) b s x1 f18 f19) ∧ (∀ (x1 : Int) (f18 : Int → Int) (f19 : Int → Int), m1 = 0 → m2 = 1 → m3 = ((s.2 6 2 - x1).toNat) → ((0 ≤ x1 ∧ x1 ≤ s.2 6 2) ∧ f18 = s.2 18 ∧ GS (s.2 13) f19 (s.2 18) (s.2 6 2) x1) → HX3_goes_27 (QX3_goes s) b s x1 f18 f19) ∧ (∀ (x1 : Int) (f18 : Int → Int) (f19 : Int → Int), m1 = 0 → m2 = 0 → m3 = ((s.2 6 2 - x1).toNat) → ((0 ≤ x1 ∧ x1 ≤ s.2 6 2) ∧ GS (s.2 13) f19 (s.2 18) (s.2 6 2) (s.2 6 2) ∧ ∀ z : Int, 0 ≤ z → z < x1 → f18 z = f19 z) → HX3_goes_66 (QX3_goes s) b s x1 f18 f19) := by
  refine lex3_ind ?_
  intro m1 m2 m3 ih
  refine ⟨?_, ?_, ?_⟩
  · rintro x1 f18 f19 rfl rfl rfl hI
    refine bX3_goes_2 b s x1 f18 f19 ?_
    refine ⟨fun c_1 => ?_, fun c_1 => ?_⟩
    · exact (ih _ _ _ (vX3_goes_2 s hp x1 f18 f19 hI c_1)).2.1 0 f18 f19 rfl rfl rfl (vX3_goes_1 s hp x1 f18 f19 hI c_1)
    · have o_2 : (0 ≤ x1 ∧ x1 < 10000) := (vX3_goes_3 s hp x1 f18 f19 hI c_1)
      refine ⟨o_2, ?_⟩
      exact (ih _ _ _ (vX3_goes_5 s hp x1 f18 f19 hI c_1 o_2)).1 (i32 (x1 + 1)) f18 (upI f19 x1 0) rfl rfl rfl (vX3_goes_4 s hp x1 f18 f19 hI c_1 o_2)
  · rintro x1 f18 f19 rfl rfl rfl hI
    refine bX3_goes_27 b s x1 f18 f19 ?_
    refine ⟨fun c_1 => ?_, fun c_1 => ?_⟩
    · exact (ih _ _ _ (vX3_goes_7 s hp x1 f18 f19 hI c_1)).2.2 0 f18 f19 rfl rfl rfl (vX3_goes_6 s hp x1 f18 f19 hI c_1)
    · have o_2 : (0 ≤ x1 ∧ x1 < 10000) := (vX3_goes_8 s hp x1 f18 f19 hI c_1)
      refine ⟨o_2, ?_⟩
      refine ⟨fun c_3 => ?_, fun c_3 => ?_⟩
      · exact (ih _ _ _ (vX3_goes_10 s hp x1 f18 f19 hI c_1 o_2 c_3)).2.1 (i32 (x1 + 1)) f18 f19 rfl rfl rfl (vX3_goes_9 s hp x1 f18 f19 hI c_1 o_2 c_3)
      · have o_4 : (0 ≤ (s.2 13 x1) ∧ (s.2 13 x1) < 10000) := (vX3_goes_11 s hp x1 f18 f19 hI c_1 o_2 c_3)
        refine ⟨o_4, ?_⟩
        exact (ih _ _ _ (vX3_goes_13 s hp x1 f18 f19 hI c_1 o_2 c_3 o_4)).2.1 (i32 (x1 + 1)) f18 (upI f19 (s.2 13 x1) 1) rfl rfl rfl (vX3_goes_12 s hp x1 f18 f19 hI c_1 o_2 c_3 o_4)
  · rintro x1 f18 f19 rfl rfl rfl hI
    refine bX3_goes_66 b s x1 f18 f19 ?_
    refine ⟨fun c_1 => ?_, fun c_1 => ?_⟩
    · exact ⟨f18, f19, rfl, rfl, (vX3_goes_14 s hp x1 f18 f19 hI c_1)⟩
    · have o_2 : (0 ≤ x1 ∧ x1 < 10000) := (vX3_goes_15 s hp x1 f18 f19 hI c_1)
      refine ⟨o_2, ?_⟩
      have o_3 : ((f19 x1) = 0 ∨ (f19 x1) = 1) := (vX3_goes_16 s hp x1 f18 f19 hI c_1 o_2)
      refine ⟨o_3, ?_⟩
      exact (ih _ _ _ (vX3_goes_18 s hp x1 f18 f19 hI c_1 o_2 o_3)).2.2 (i32 (x1 + 1)) (upI f18 x1 (f19 x1)) f19 rfl rfl rfl (vX3_goes_17 s hp x1 f18 f19 hI c_1 o_2 o_3)
theorem ctX3_goes (b : AH) (s : MS) (hp : tOK (s.2 6) ∧ rng (s.2 13) ((s.2 6) 2) ∧ ∀ z : Int, 0 ≤ z → z < (s.2 6) 2 → (s.2 18) z = 0 ∨ (s.2 18) z = 1) : MC mX3_goes 1 b s [] (QX3_goes s) := by
  refine MC.of (by decide) rfl (Nat.le_of_ble_eq_true rfl) (JW.steq (s2 := sA (sA s 18 (s.2 18)) 19 (s.2 19)) (by simp only [sA_id, sS_id]) ?_)
  refine bX3_goes_0 b s (s.2 18) (s.2 19) ?_
  exact (allX3_goes b s hp _ _ _).1 0 (s.2 18) (s.2 19) rfl rfl rfl (vX3_goes_19 s hp)
def HX3_crowdsBehind_0 (Q : Option AV → MS → Prop) (b : AH) (s : MS) (x1 : Int) (x2 : Int) (f11 : Int → Int) (f12 : Int → Int) (f13 : Int → Int) (f18 : Int → Int) (f19 : Int → Int) (k25 : Int) : Prop := MW mX3_crowdsBehind 7 Q b 0 [(0, vR 351), (1, vI x1), (2, vI x2)] [] (sS (sA (sA (sA (sA (sA s 11 f11) 12 f12) 13 f13) 18 f18) 19 f19) 25 k25)
def HX3_crowdsBehind_11 (Q : Option AV → MS → Prop) (b : AH) (s : MS) (x2 : Int) (x3 : Int) (f11 : Int → Int) (f12 : Int → Int) (f13 : Int → Int) (f18 : Int → Int) (f19 : Int → Int) (k25 : Int) : Prop := MW mX3_crowdsBehind 7 Q b 11 [(0, vR 351), (2, vI x2), (3, vI x3)] [] (sS (sA (sA (sA (sA (sA s 11 f11) 12 f12) 13 f13) 18 f18) 19 f19) 25 k25)
theorem bX3_crowdsBehind_0 {Q : Option AV → MS → Prop} (b : AH) (s : MS) (x1 : Int) (x2 : Int) (f11 : Int → Int) (f12 : Int → Int) (f13 : Int → Int) (f18 : Int → Int) (f19 : Int → Int) (k25 : Int) (K : (tOK (s.2 6) ∧ aOK (s.2 6) (s.2 7)) ∧ ((∀ (f_2 : Int → Int) (f_3 : Int → Int) (f_4 : Int → Int) (k_5 : Int), (NXO (s.2 6) (s.2 7) f_4) → (tOK (s.2 6) ∧ (0 ≤ x1 ∧ x1 ≤ 3)) ∧ ((∀ (f_8 : Int → Int) (f_9 : Int → Int) (f_10 : Int → Int), (BS f_10 ((s.2 6) 2) (inC (s.2 6) (s.2 9) x1)) → HX3_crowdsBehind_11 Q b s x2 0 f_8 f_9 f_4 f_10 f19 k_5))))) : HX3_crowdsBehind_0 Q b s x1 x2 f11 f12 f13 f18 f19 k25 := by
  refine JW.aload_n dX3_crowdsBehind_0 rfl ?_
  obtain ⟨o_1, K⟩ := K
  refine JW.mcall (As := []) dX3_crowdsBehind_1 vX3_lays rfl q1867 (ctX3_lays b (sS (sA (sA (sA (sA (sA s 11 f11) 12 f12) 13 f13) 18 f18) 19 f19) 25 k25) o_1) (Nat.le_of_ble_eq_true rfl) rfl (Nat.le_of_ble_eq_true rfl) ?_
  rintro _ _ ⟨f_2, f_3, f_4, k_5, rfl, rfl, q_6⟩
  refine JW.steq (s2 := sS (sA (sA (sA (sA (sA s 11 f_2) 12 f_3) 13 f_4) 18 f18) 19 f19) 25 k_5) (by simp only [sA_A, sS_S, sA_S, sA_lt, sS_lt, Nat.reduceLT, id_eq] <;> rfl) ?_
  replace K := K f_2 f_3 f_4 k_5 q_6
  refine JW.aload_n dX3_crowdsBehind_4 rfl ?_
  refine JW.iload_n dX3_crowdsBehind_5 rfl ?_
  obtain ⟨o_7, K⟩ := K
  refine JW.mcall (As := [vI x1]) dX3_crowdsBehind_6 vX3_crowds rfl q1993 (ctX3_crowds b (sS (sA (sA (sA (sA (sA s 11 f_2) 12 f_3) 13 f_4) 18 f18) 19 f19) 25 k_5) x1 o_7) (Nat.le_of_ble_eq_true rfl) rfl (Nat.le_of_ble_eq_true rfl) ?_
  rintro _ _ ⟨f_8, f_9, f_10, rfl, rfl, q_11⟩
  refine JW.steq (s2 := sS (sA (sA (sA (sA (sA s 11 f_8) 12 f_9) 13 f_4) 18 f_10) 19 f19) 25 k_5) (by simp only [sA_A, sS_S, sA_S, sA_lt, sS_lt, Nat.reduceLT, id_eq] <;> rfl) ?_
  replace K := K f_8 f_9 f_10 q_11
  refine JW.iconst dX3_crowdsBehind_9 rfl ?_
  refine JW.istore_n (ls' := [(0, vR 351), (1, vI x1), (2, vI x2), (3, vI 0)]) dX3_crowdsBehind_10 (Nat.le_of_ble_eq_true rfl) rfl ?_
  exact JW.pick [0, 2, 3] rfl K
theorem bX3_crowdsBehind_11 {Q : Option AV → MS → Prop} (b : AH) (s : MS) (x2 : Int) (x3 : Int) (f11 : Int → Int) (f12 : Int → Int) (f13 : Int → Int) (f18 : Int → Int) (f19 : Int → Int) (k25 : Int) (K : (x2 ≤ x3 → Q none (sS (sA (sA (sA (sA (sA s 11 f11) 12 f12) 13 f13) 18 f18) 19 f19) 25 k25)) ∧ (¬ x2 ≤ x3 → (tOK (s.2 6) ∧ rng f13 ((s.2 6) 2) ∧ ∀ z : Int, 0 ≤ z → z < (s.2 6) 2 → f18 z = 0 ∨ f18 z = 1) ∧ ((∀ (f_3 : Int → Int) (f_4 : Int → Int), (BS f_3 ((s.2 6) 2) (stepS f13 ((s.2 6) 2) (fun y => f18 y = 1))) → HX3_crowdsBehind_11 Q b s x2 (i32 (x3 + 1)) f11 f12 f13 f_3 f_4 k25)))) : HX3_crowdsBehind_11 Q b s x2 x3 f11 f12 f13 f18 f19 k25 := by
  refine JW.iload_n dX3_crowdsBehind_11 rfl ?_
  refine JW.iload_n dX3_crowdsBehind_12 rfl ?_
  refine JW.icmp_ge (tgt := 26) dX3_crowdsBehind_13 rfl (fun c_1 => ?_) (fun c_1 => ?_)
  · have K := K.1 c_1
    exact JW.vreturn dX3_crowdsBehind_26 rfl ⟨_, rfl, K⟩
  · have K := K.2 c_1
    refine JW.aload_n dX3_crowdsBehind_16 rfl ?_
    obtain ⟨o_2, K⟩ := K
    refine JW.mcall (As := []) dX3_crowdsBehind_17 vX3_goes rfl q2005 (ctX3_goes b (sS (sA (sA (sA (sA (sA s 11 f11) 12 f12) 13 f13) 18 f18) 19 f19) 25 k25) o_2) (Nat.le_of_ble_eq_true rfl) rfl (Nat.le_of_ble_eq_true rfl) ?_
    rintro _ _ ⟨f_3, f_4, rfl, rfl, q_5⟩
    refine JW.steq (s2 := sS (sA (sA (sA (sA (sA s 11 f11) 12 f12) 13 f13) 18 f_3) 19 f_4) 25 k25) (by simp only [sA_A, sS_S, sA_S, sA_lt, sS_lt, Nat.reduceLT, id_eq] <;> rfl) ?_
    replace K := K f_3 f_4 q_5
    refine JW.iinc (ls' := [(0, vR 351), (2, vI x2), (3, vI (i32 (x3 + 1)))]) dX3_crowdsBehind_20 (Nat.le_of_ble_eq_true rfl) rfl rfl ?_
    refine JW.goto (tgt := 11) dX3_crowdsBehind_23 rfl ?_
    exact JW.pick [0, 2, 3] rfl K
def QX3_crowdsBehind (s : MS) (a1 : Int) (a2 : Int) : Option AV → MS → Prop := fun v s' => ∃ (f11 : Int → Int) (f12 : Int → Int) (f13 : Int → Int) (f18 : Int → Int) (f19 : Int → Int) (k25 : Int), v = none ∧ s' = sS (sA (sA (sA (sA (sA s 11 f11) 12 f12) 13 f13) 18 f18) 19 f19) 25 k25 ∧ (NXO (s.2 6) (s.2 7) f13 ∧ BS f18 ((s.2 6) 2) (crS (s.2 6) (s.2 7) (s.2 9) a1 (a2).toNat))
theorem vX3_crowdsBehind_1 (s : MS) (a1 : Int) (a2 : Int) (hp : tOK (s.2 6) ∧ aOK (s.2 6) (s.2 7) ∧ (0 ≤ a1 ∧ a1 ≤ 3) ∧ 0 ≤ a2 ∧ a2 ≤ 200) (x2 : Int) (x3 : Int) (f11 : Int → Int) (f12 : Int → Int) (f13 : Int → Int) (f18 : Int → Int) (f19 : Int → Int) (k25 : Int) (hI : NXO (s.2 6) (s.2 7) f13 ∧ x2 = a2 ∧ (0 ≤ x3 ∧ x3 ≤ a2) ∧ BS f18 (s.2 6 2) (crS (s.2 6) (s.2 7) (s.2 9) a1 x3.toNat)) (c_1 : x2 ≤ x3) : NXO (s.2 6) (s.2 7) f13 ∧ BS f18 ((s.2 6) 2) (crS (s.2 6) (s.2 7) (s.2 9) a1 (a2).toNat) := by
  obtain ⟨ht, ha, hc, hi, hj⟩ := hp
  have hN := tOK_N ht
  (try unfold lex3)
  (try simp only [bI_0, bI_n, Classical.not_not] at *)
  (try simp (disch := omega) only [i32_id] at *)
  first | done | omega | ((repeat' (with_reducible apply And.intro)) <;> first | assumption | rfl | omega | (exact hI.1) | (exact NXO_rng hI.1) | (exact BS_01 hI.2.2.2) | (exact BS_0 (by assumption)) | (rw [show (x3 + 1).toNat = x3.toNat + 1 by omega]; exact BS_step hI.1 hI.2.2.2 (by assumption)) | (rw [show a2 = x3 by omega]; exact hI.2.2.2) | grind [upI])
theorem vX3_crowdsBehind_2 (s : MS) (a1 : Int) (a2 : Int) (hp : tOK (s.2 6) ∧ aOK (s.2 6) (s.2 7) ∧ (0 ≤ a1 ∧ a1 ≤ 3) ∧ 0 ≤ a2 ∧ a2 ≤ 200) (x2 : Int) (x3 : Int) (f11 : Int → Int) (f12 : Int → Int) (f13 : Int → Int) (f18 : Int → Int) (f19 : Int → Int) (k25 : Int) (hI : NXO (s.2 6) (s.2 7) f13 ∧ x2 = a2 ∧ (0 ≤ x3 ∧ x3 ≤ a2) ∧ BS f18 (s.2 6 2) (crS (s.2 6) (s.2 7) (s.2 9) a1 x3.toNat)) (c_1 : ¬ x2 ≤ x3) : (tOK (s.2 6) ∧ rng f13 ((s.2 6) 2) ∧ ∀ z : Int, 0 ≤ z → z < (s.2 6) 2 → f18 z = 0 ∨ f18 z = 1) := by
  obtain ⟨ht, ha, hc, hi, hj⟩ := hp
  have hN := tOK_N ht
  (try unfold lex3)
  (try simp only [bI_0, bI_n, Classical.not_not] at *)
  (try simp (disch := omega) only [i32_id] at *)
  first | done | omega | ((repeat' (with_reducible apply And.intro)) <;> first | assumption | rfl | omega | (exact hI.1) | (exact NXO_rng hI.1) | (exact BS_01 hI.2.2.2) | (exact BS_0 (by assumption)) | (rw [show (x3 + 1).toNat = x3.toNat + 1 by omega]; exact BS_step hI.1 hI.2.2.2 (by assumption)) | (rw [show a2 = x3 by omega]; exact hI.2.2.2) | grind [upI])
theorem vX3_crowdsBehind_3 (s : MS) (a1 : Int) (a2 : Int) (hp : tOK (s.2 6) ∧ aOK (s.2 6) (s.2 7) ∧ (0 ≤ a1 ∧ a1 ≤ 3) ∧ 0 ≤ a2 ∧ a2 ≤ 200) (x2 : Int) (x3 : Int) (f11 : Int → Int) (f12 : Int → Int) (f13 : Int → Int) (f18 : Int → Int) (f19 : Int → Int) (k25 : Int) (hI : NXO (s.2 6) (s.2 7) f13 ∧ x2 = a2 ∧ (0 ≤ x3 ∧ x3 ≤ a2) ∧ BS f18 (s.2 6 2) (crS (s.2 6) (s.2 7) (s.2 9) a1 x3.toNat)) (c_1 : ¬ x2 ≤ x3) (o_2 : (tOK (s.2 6) ∧ rng f13 ((s.2 6) 2) ∧ ∀ z : Int, 0 ≤ z → z < (s.2 6) 2 → f18 z = 0 ∨ f18 z = 1)) (f_3 : Int → Int) (f_4 : Int → Int) (q_5 : (BS f_3 ((s.2 6) 2) (stepS f13 ((s.2 6) 2) (fun y => f18 y = 1)))) : NXO (s.2 6) (s.2 7) f13 ∧ x2 = a2 ∧ (0 ≤ (i32 (x3 + 1)) ∧ (i32 (x3 + 1)) ≤ a2) ∧ BS f_3 (s.2 6 2) (crS (s.2 6) (s.2 7) (s.2 9) a1 (i32 (x3 + 1)).toNat) := by
  obtain ⟨ht, ha, hc, hi, hj⟩ := hp
  have hN := tOK_N ht
  (try unfold lex3)
  (try simp only [bI_0, bI_n, Classical.not_not] at *)
  (try simp (disch := omega) only [i32_id] at *)
  first | done | omega | ((repeat' (with_reducible apply And.intro)) <;> first | assumption | rfl | omega | (exact hI.1) | (exact NXO_rng hI.1) | (exact BS_01 hI.2.2.2) | (exact BS_0 (by assumption)) | (rw [show (x3 + 1).toNat = x3.toNat + 1 by omega]; exact BS_step hI.1 hI.2.2.2 (by assumption)) | (rw [show a2 = x3 by omega]; exact hI.2.2.2) | grind [upI])
theorem vX3_crowdsBehind_4 (s : MS) (a1 : Int) (a2 : Int) (hp : tOK (s.2 6) ∧ aOK (s.2 6) (s.2 7) ∧ (0 ≤ a1 ∧ a1 ≤ 3) ∧ 0 ≤ a2 ∧ a2 ≤ 200) (x2 : Int) (x3 : Int) (f11 : Int → Int) (f12 : Int → Int) (f13 : Int → Int) (f18 : Int → Int) (f19 : Int → Int) (k25 : Int) (hI : NXO (s.2 6) (s.2 7) f13 ∧ x2 = a2 ∧ (0 ≤ x3 ∧ x3 ≤ a2) ∧ BS f18 (s.2 6 2) (crS (s.2 6) (s.2 7) (s.2 9) a1 x3.toNat)) (c_1 : ¬ x2 ≤ x3) (o_2 : (tOK (s.2 6) ∧ rng f13 ((s.2 6) 2) ∧ ∀ z : Int, 0 ≤ z → z < (s.2 6) 2 → f18 z = 0 ∨ f18 z = 1)) (f_3 : Int → Int) (f_4 : Int → Int) (q_5 : (BS f_3 ((s.2 6) 2) (stepS f13 ((s.2 6) 2) (fun y => f18 y = 1)))) : lex3 0 0 ((a2 - (i32 (x3 + 1))).toNat) 0 0 ((a2 - x3).toNat) := by
  obtain ⟨ht, ha, hc, hi, hj⟩ := hp
  have hN := tOK_N ht
  (try unfold lex3)
  (try simp only [bI_0, bI_n, Classical.not_not] at *)
  (try simp (disch := omega) only [i32_id] at *)
  first | done | omega | ((repeat' (with_reducible apply And.intro)) <;> first | assumption | rfl | omega | (exact hI.1) | (exact NXO_rng hI.1) | (exact BS_01 hI.2.2.2) | (exact BS_0 (by assumption)) | (rw [show (x3 + 1).toNat = x3.toNat + 1 by omega]; exact BS_step hI.1 hI.2.2.2 (by assumption)) | (rw [show a2 = x3 by omega]; exact hI.2.2.2) | grind [upI])
theorem vX3_crowdsBehind_5 (s : MS) (a1 : Int) (a2 : Int) (hp : tOK (s.2 6) ∧ aOK (s.2 6) (s.2 7) ∧ (0 ≤ a1 ∧ a1 ≤ 3) ∧ 0 ≤ a2 ∧ a2 ≤ 200) : (tOK (s.2 6) ∧ aOK (s.2 6) (s.2 7)) := by
  obtain ⟨ht, ha, hc, hi, hj⟩ := hp
  have hN := tOK_N ht
  (try unfold lex3)
  (try simp only [bI_0, bI_n, Classical.not_not] at *)
  (try simp (disch := omega) only [i32_id] at *)
  first | done | omega | ((repeat' (with_reducible apply And.intro)) <;> first | assumption | rfl | omega | (exact hI.1) | (exact NXO_rng hI.1) | (exact BS_01 hI.2.2.2) | (exact BS_0 (by assumption)) | (rw [show (x3 + 1).toNat = x3.toNat + 1 by omega]; exact BS_step hI.1 hI.2.2.2 (by assumption)) | (rw [show a2 = x3 by omega]; exact hI.2.2.2) | grind [upI])
theorem vX3_crowdsBehind_6 (s : MS) (a1 : Int) (a2 : Int) (hp : tOK (s.2 6) ∧ aOK (s.2 6) (s.2 7) ∧ (0 ≤ a1 ∧ a1 ≤ 3) ∧ 0 ≤ a2 ∧ a2 ≤ 200) (o_1 : (tOK (s.2 6) ∧ aOK (s.2 6) (s.2 7))) (f_2 : Int → Int) (f_3 : Int → Int) (f_4 : Int → Int) (k_5 : Int) (q_6 : (NXO (s.2 6) (s.2 7) f_4)) : (tOK (s.2 6) ∧ (0 ≤ a1 ∧ a1 ≤ 3)) := by
  obtain ⟨ht, ha, hc, hi, hj⟩ := hp
  have hN := tOK_N ht
  (try unfold lex3)
  (try simp only [bI_0, bI_n, Classical.not_not] at *)
  (try simp (disch := omega) only [i32_id] at *)
  first | done | omega | ((repeat' (with_reducible apply And.intro)) <;> first | assumption | rfl | omega | (exact hI.1) | (exact NXO_rng hI.1) | (exact BS_01 hI.2.2.2) | (exact BS_0 (by assumption)) | (rw [show (x3 + 1).toNat = x3.toNat + 1 by omega]; exact BS_step hI.1 hI.2.2.2 (by assumption)) | (rw [show a2 = x3 by omega]; exact hI.2.2.2) | grind [upI])
theorem vX3_crowdsBehind_7 (s : MS) (a1 : Int) (a2 : Int) (hp : tOK (s.2 6) ∧ aOK (s.2 6) (s.2 7) ∧ (0 ≤ a1 ∧ a1 ≤ 3) ∧ 0 ≤ a2 ∧ a2 ≤ 200) (o_1 : (tOK (s.2 6) ∧ aOK (s.2 6) (s.2 7))) (f_2 : Int → Int) (f_3 : Int → Int) (f_4 : Int → Int) (k_5 : Int) (q_6 : (NXO (s.2 6) (s.2 7) f_4)) (o_7 : (tOK (s.2 6) ∧ (0 ≤ a1 ∧ a1 ≤ 3))) (f_8 : Int → Int) (f_9 : Int → Int) (f_10 : Int → Int) (q_11 : (BS f_10 ((s.2 6) 2) (inC (s.2 6) (s.2 9) a1))) : NXO (s.2 6) (s.2 7) f_4 ∧ a2 = a2 ∧ (0 ≤ (0 : Int) ∧ (0 : Int) ≤ a2) ∧ BS f_10 (s.2 6 2) (crS (s.2 6) (s.2 7) (s.2 9) a1 (0 : Int).toNat) := by
  obtain ⟨ht, ha, hc, hi, hj⟩ := hp
  have hN := tOK_N ht
  (try unfold lex3)
  (try simp only [bI_0, bI_n, Classical.not_not] at *)
  (try simp (disch := omega) only [i32_id] at *)
  first | done | omega | ((repeat' (with_reducible apply And.intro)) <;> first | assumption | rfl | omega | (exact hI.1) | (exact NXO_rng hI.1) | (exact BS_01 hI.2.2.2) | (exact BS_0 (by assumption)) | (rw [show (x3 + 1).toNat = x3.toNat + 1 by omega]; exact BS_step hI.1 hI.2.2.2 (by assumption)) | (rw [show a2 = x3 by omega]; exact hI.2.2.2) | grind [upI])
theorem allX3_crowdsBehind (b : AH) (s : MS) (a1 : Int) (a2 : Int) (hp : tOK (s.2 6) ∧ aOK (s.2 6) (s.2 7) ∧ (0 ≤ a1 ∧ a1 ≤ 3) ∧ 0 ≤ a2 ∧ a2 ≤ 200) : ∀ m1 m2 m3 : Nat, (∀ (x2 : Int) (x3 : Int) (f11 : Int → Int) (f12 : Int → Int) (f13 : Int → Int) (f18 : Int → Int) (f19 : Int → Int) (k25 : Int), m1 = 0 → m2 = 0 → m3 = ((a2 - x3).toNat) → (NXO (s.2 6) (s.2 7) f13 ∧ x2 = a2 ∧ (0 ≤ x3 ∧ x3 ≤ a2) ∧ BS f18 (s.2 6 2) (crS (s.2 6) (s.2 7) (s.2 9) a1 x3.toNat)) → HX3_crowdsBehind_11 (QX3_crowdsBehind s a1 a2) b s x2 x3 f11 f12 f13 f18 f19 k25) := by
  refine lex3_ind ?_
  intro m1 m2 m3 ih
  rintro x2 x3 f11 f12 f13 f18 f19 k25 rfl rfl rfl hI
  refine bX3_crowdsBehind_11 b s x2 x3 f11 f12 f13 f18 f19 k25 ?_
  refine ⟨fun c_1 => ?_, fun c_1 => ?_⟩
  · exact ⟨f11, f12, f13, f18, f19, k25, rfl, rfl, (vX3_crowdsBehind_1 s a1 a2 hp x2 x3 f11 f12 f13 f18 f19 k25 hI c_1)⟩
  · have o_2 : (tOK (s.2 6) ∧ rng f13 ((s.2 6) 2) ∧ ∀ z : Int, 0 ≤ z → z < (s.2 6) 2 → f18 z = 0 ∨ f18 z = 1) := (vX3_crowdsBehind_2 s a1 a2 hp x2 x3 f11 f12 f13 f18 f19 k25 hI c_1)
    refine ⟨o_2, ?_⟩
    intro f_3 f_4 q_5
    exact (ih _ _ _ (vX3_crowdsBehind_4 s a1 a2 hp x2 x3 f11 f12 f13 f18 f19 k25 hI c_1 o_2 f_3 f_4 q_5)) x2 (i32 (x3 + 1)) f11 f12 f13 f_3 f_4 k25 rfl rfl rfl (vX3_crowdsBehind_3 s a1 a2 hp x2 x3 f11 f12 f13 f18 f19 k25 hI c_1 o_2 f_3 f_4 q_5)
theorem ctX3_crowdsBehind (b : AH) (s : MS) (a1 : Int) (a2 : Int) (hp : tOK (s.2 6) ∧ aOK (s.2 6) (s.2 7) ∧ (0 ≤ a1 ∧ a1 ≤ 3) ∧ 0 ≤ a2 ∧ a2 ≤ 200) : MC mX3_crowdsBehind 7 b s [vI a1, vI a2] (QX3_crowdsBehind s a1 a2) := by
  refine MC.of (by decide) rfl (Nat.le_of_ble_eq_true rfl) (JW.steq (s2 := sS (sA (sA (sA (sA (sA s 11 (s.2 11)) 12 (s.2 12)) 13 (s.2 13)) 18 (s.2 18)) 19 (s.2 19)) 25 (s.1 25)) (by simp only [sA_id, sS_id]) ?_)
  refine bX3_crowdsBehind_0 b s a1 a2 (s.2 11) (s.2 12) (s.2 13) (s.2 18) (s.2 19) (s.1 25) ?_
  have o_1 : (tOK (s.2 6) ∧ aOK (s.2 6) (s.2 7)) := (vX3_crowdsBehind_5 s a1 a2 hp)
  refine ⟨o_1, ?_⟩
  intro f_2 f_3 f_4 k_5 q_6
  have o_7 : (tOK (s.2 6) ∧ (0 ≤ a1 ∧ a1 ≤ 3)) := (vX3_crowdsBehind_6 s a1 a2 hp o_1 f_2 f_3 f_4 k_5 q_6)
  refine ⟨o_7, ?_⟩
  intro f_8 f_9 f_10 q_11
  exact (allX3_crowdsBehind b s a1 a2 hp _ _ _) a2 0 f_8 f_9 f_4 f_10 (s.2 19) k_5 rfl rfl rfl (vX3_crowdsBehind_7 s a1 a2 hp o_1 f_2 f_3 f_4 k_5 q_6 o_7 f_8 f_9 f_10 q_11)
def HX3_isCrowd_0 (Q : Option AV → MS → Prop) (b : AH) (s : MS) (x1 : Int) (x2 : Int) : Prop := MW mX3_isCrowd 2 Q b 0 [(0, vR 351), (1, vI x1), (2, vI x2)] [] s
theorem bX3_isCrowd_0 {Q : Option AV → MS → Prop} (b : AH) (s : MS) (x1 : Int) (x2 : Int) (K : ((bI (0 < (s.2 5) 0)) = 0 → Q (some (vI 0)) s) ∧ (¬ (bI (0 < (s.2 5) 0)) = 0 → ((bI ((0 : Int) ≤ x1 ∧ x1 ≤ (3 : Int))) = 0 → Q (some (vI 0)) s) ∧ (¬ (bI ((0 : Int) ≤ x1 ∧ x1 ≤ (3 : Int))) = 0 → ((bI ((0 : Int) ≤ x2 ∧ x2 ≤ (200 : Int))) = 0 → Q (some (vI 0)) s) ∧ (¬ (bI ((0 : Int) ≤ x2 ∧ x2 ≤ (200 : Int))) = 0 → Q (some (vI 1)) s)))) : HX3_isCrowd_0 Q b s x1 x2 := by
  refine JW.aload_n dX3_isCrowd_0 rfl ?_
  refine JW.mcall (As := []) dX3_isCrowd_1 vX3_isTable rfl q1798 (ctX3_isTable b s) (Nat.le_of_ble_eq_true rfl) rfl (Nat.le_of_ble_eq_true rfl) ?_
  rintro _ _ ⟨rfl, eq_1⟩
  refine JW.steq (s2 := s) eq_1 ?_
  refine JW.if_eq (tgt := 35) dX3_isCrowd_4 rfl (fun c_2 => ?_) (fun c_2 => ?_)
  · have K := K.1 c_2
    refine JW.iconst dX3_isCrowd_35 rfl ?_
    exact JW.zreturn dX3_isCrowd_36 rfl (Or.inl rfl) ⟨_, rfl, K⟩
  · have K := K.2 c_2
    refine JW.iload_n dX3_isCrowd_7 rfl ?_
    refine JW.i2l dX3_isCrowd_8 ?_
    refine JW.lconst (x := 0) dX3_isCrowd_9 rfl ?_
    refine JW.ldc2 (x := 3) dX3_isCrowd_10 q1631 rfl ?_
    refine JW.mcallS (As := [vL x1, vL 0, vL 3]) dX3_isCrowd_13 vX3_in q1632 (ctX3_in b s x1 0 3) (Nat.le_of_ble_eq_true rfl) rfl (Nat.le_of_ble_eq_true rfl) ?_
    rintro _ _ ⟨rfl, eq_3⟩
    refine JW.steq (s2 := s) eq_3 ?_
    refine JW.if_eq (tgt := 35) dX3_isCrowd_16 rfl (fun c_4 => ?_) (fun c_4 => ?_)
    · have K := K.1 c_4
      refine JW.iconst dX3_isCrowd_35 rfl ?_
      exact JW.zreturn dX3_isCrowd_36 rfl (Or.inl rfl) ⟨_, rfl, K⟩
    · have K := K.2 c_4
      refine JW.iload_n dX3_isCrowd_19 rfl ?_
      refine JW.i2l dX3_isCrowd_20 ?_
      refine JW.lconst (x := 0) dX3_isCrowd_21 rfl ?_
      refine JW.ldc2 (x := 200) dX3_isCrowd_22 q1960 rfl ?_
      refine JW.mcallS (As := [vL x2, vL 0, vL 200]) dX3_isCrowd_25 vX3_in q1632 (ctX3_in b s x2 0 200) (Nat.le_of_ble_eq_true rfl) rfl (Nat.le_of_ble_eq_true rfl) ?_
      rintro _ _ ⟨rfl, eq_5⟩
      refine JW.steq (s2 := s) eq_5 ?_
      refine JW.if_eq (tgt := 35) dX3_isCrowd_28 rfl (fun c_6 => ?_) (fun c_6 => ?_)
      · have K := K.1 c_6
        refine JW.iconst dX3_isCrowd_35 rfl ?_
        exact JW.zreturn dX3_isCrowd_36 rfl (Or.inl rfl) ⟨_, rfl, K⟩
      · have K := K.2 c_6
        refine JW.iconst dX3_isCrowd_31 rfl ?_
        refine JW.goto (tgt := 36) dX3_isCrowd_32 rfl ?_
        exact JW.zreturn dX3_isCrowd_36 rfl (Or.inr rfl) ⟨_, rfl, K⟩
def QX3_isCrowd (s : MS) (a1 : Int) (a2 : Int) : Option AV → MS → Prop := fun v s' => v = some (vI (bI (0 < (s.2 5) 0 ∧ (0 ≤ a1 ∧ a1 ≤ 3) ∧ 0 ≤ a2 ∧ a2 ≤ 200))) ∧ s' = s
theorem vX3_isCrowd_1 (s : MS) (a1 : Int) (a2 : Int) (c_2 : (bI (0 < (s.2 5) 0)) = 0) : 0 = (bI (0 < (s.2 5) 0 ∧ (0 ≤ a1 ∧ a1 ≤ 3) ∧ 0 ≤ a2 ∧ a2 ≤ 200)) := by
  (try simp only [bI_0, bI_n, Classical.not_not] at *)
  first | (rw [bI_f (by omega)]) | (rw [bI_t (by omega)]) | (exact bI_c (by omega)) | omega | (exact bI_01 _)
theorem vX3_isCrowd_2 (s : MS) (a1 : Int) (a2 : Int) (c_2 : ¬ (bI (0 < (s.2 5) 0)) = 0) (c_4 : (bI ((0 : Int) ≤ a1 ∧ a1 ≤ (3 : Int))) = 0) : 0 = (bI (0 < (s.2 5) 0 ∧ (0 ≤ a1 ∧ a1 ≤ 3) ∧ 0 ≤ a2 ∧ a2 ≤ 200)) := by
  (try simp only [bI_0, bI_n, Classical.not_not] at *)
  first | (rw [bI_f (by omega)]) | (rw [bI_t (by omega)]) | (exact bI_c (by omega)) | omega | (exact bI_01 _)
theorem vX3_isCrowd_3 (s : MS) (a1 : Int) (a2 : Int) (c_2 : ¬ (bI (0 < (s.2 5) 0)) = 0) (c_4 : ¬ (bI ((0 : Int) ≤ a1 ∧ a1 ≤ (3 : Int))) = 0) (c_6 : (bI ((0 : Int) ≤ a2 ∧ a2 ≤ (200 : Int))) = 0) : 0 = (bI (0 < (s.2 5) 0 ∧ (0 ≤ a1 ∧ a1 ≤ 3) ∧ 0 ≤ a2 ∧ a2 ≤ 200)) := by
  (try simp only [bI_0, bI_n, Classical.not_not] at *)
  first | (rw [bI_f (by omega)]) | (rw [bI_t (by omega)]) | (exact bI_c (by omega)) | omega | (exact bI_01 _)
theorem vX3_isCrowd_4 (s : MS) (a1 : Int) (a2 : Int) (c_2 : ¬ (bI (0 < (s.2 5) 0)) = 0) (c_4 : ¬ (bI ((0 : Int) ≤ a1 ∧ a1 ≤ (3 : Int))) = 0) (c_6 : ¬ (bI ((0 : Int) ≤ a2 ∧ a2 ≤ (200 : Int))) = 0) : 1 = (bI (0 < (s.2 5) 0 ∧ (0 ≤ a1 ∧ a1 ≤ 3) ∧ 0 ≤ a2 ∧ a2 ≤ 200)) := by
  (try simp only [bI_0, bI_n, Classical.not_not] at *)
  first | (rw [bI_f (by omega)]) | (rw [bI_t (by omega)]) | (exact bI_c (by omega)) | omega | (exact bI_01 _)
theorem ctX3_isCrowd (b : AH) (s : MS) (a1 : Int) (a2 : Int) : MC mX3_isCrowd 2 b s [vI a1, vI a2] (QX3_isCrowd s a1 a2) := by
  refine MC.of (by decide) rfl (Nat.le_of_ble_eq_true rfl) ?_
  refine bX3_isCrowd_0 b s a1 a2 ?_
  refine ⟨fun c_2 => ?_, fun c_2 => ?_⟩
  · exact ⟨(rI_c (vX3_isCrowd_1 s a1 a2 c_2)), rfl⟩
  · refine ⟨fun c_4 => ?_, fun c_4 => ?_⟩
    · exact ⟨(rI_c (vX3_isCrowd_2 s a1 a2 c_2 c_4)), rfl⟩
    · refine ⟨fun c_6 => ?_, fun c_6 => ?_⟩
      · exact ⟨(rI_c (vX3_isCrowd_3 s a1 a2 c_2 c_4 c_6)), rfl⟩
      · exact ⟨(rI_c (vX3_isCrowd_4 s a1 a2 c_2 c_4 c_6)), rfl⟩
def HX3_sureAt_0 (Q : Option AV → MS → Prop) (b : AH) (s : MS) (x1 : Int) (f11 : Int → Int) : Prop := MW mX3_sureAt 2 Q b 0 [(0, vR 351), (1, vI x1)] [] (sA s 11 f11)
def HX3_sureAt_4 (Q : Option AV → MS → Prop) (b : AH) (s : MS) (x1 : Int) (x2 : Int) (x3 : Int) (f11 : Int → Int) : Prop := MW mX3_sureAt 2 Q b 4 [(0, vR 351), (1, vI x1), (2, vI x2), (3, vI x3)] [] (sA s 11 f11)
theorem bX3_sureAt_0 {Q : Option AV → MS → Prop} (b : AH) (s : MS) (x1 : Int) (f11 : Int → Int) (K : HX3_sureAt_4 Q b s x1 (-1) 0 f11) : HX3_sureAt_0 Q b s x1 f11 := by
  refine JW.iconst dX3_sureAt_0 rfl ?_
  refine JW.istore_n (ls' := [(0, vR 351), (1, vI x1), (2, vI (-1))]) dX3_sureAt_1 (Nat.le_of_ble_eq_true rfl) rfl ?_
  refine JW.iconst dX3_sureAt_2 rfl ?_
  refine JW.istore_n (ls' := [(0, vR 351), (1, vI x1), (2, vI (-1)), (3, vI 0)]) dX3_sureAt_3 (Nat.le_of_ble_eq_true rfl) rfl ?_
  exact JW.pick [0, 1, 2, 3] rfl K
theorem bX3_sureAt_4 {Q : Option AV → MS → Prop} (b : AH) (s : MS) (x1 : Int) (x2 : Int) (x3 : Int) (f11 : Int → Int) (K : ((s.2 6 2) ≤ x3 → Q (some (vI x2)) (sA s 11 f11)) ∧ (¬ (s.2 6 2) ≤ x3 → (0 ≤ x3 ∧ x3 < 10000) ∧ ((¬ (s.2 18 x3) = 0 → (tOK (s.2 6) ∧ 0 ≤ x3 ∧ x3 ≤ 100000) ∧ ((x2 = (-1) → (0 ≤ x1 ∧ x1 < 8) ∧ (HX3_sureAt_4 Q b s x1 ((figs ((s.2 6) 0) ((s.2 6) 1) x3 f11) x1) (i32 (x3 + 1)) (figs ((s.2 6) 0) ((s.2 6) 1) x3 f11))) ∧ (¬ x2 = (-1) → (0 ≤ x1 ∧ x1 < 8) ∧ ((x2 = ((figs ((s.2 6) 0) ((s.2 6) 1) x3 f11) x1) → HX3_sureAt_4 Q b s x1 ((figs ((s.2 6) 0) ((s.2 6) 1) x3 f11) x1) (i32 (x3 + 1)) (figs ((s.2 6) 0) ((s.2 6) 1) x3 f11)) ∧ (¬ x2 = ((figs ((s.2 6) 0) ((s.2 6) 1) x3 f11) x1) → Q (some (vI (-1))) (sA s 11 (figs ((s.2 6) 0) ((s.2 6) 1) x3 f11))))))) ∧ ((s.2 18 x3) = 0 → HX3_sureAt_4 Q b s x1 x2 (i32 (x3 + 1)) f11)))) : HX3_sureAt_4 Q b s x1 x2 x3 f11 := by
  refine JW.iload_n dX3_sureAt_4 rfl ?_
  refine JW.aload_n dX3_sureAt_5 rfl ?_
  refine JW.mget (v := vR 358) dX3_sureAt_6 fX3_34 rfl ?_
  refine JW.iconst dX3_sureAt_9 rfl ?_
  refine JW.mald 6 (x := (s.2 6 2)) dX3_sureAt_10 (Nat.le_of_ble_eq_true rfl) rfl (by decide) (by decide) rfl ?_
  refine JW.icmp_ge (tgt := 61) dX3_sureAt_11 rfl (fun c_1 => ?_) (fun c_1 => ?_)
  · have K := K.1 c_1
    refine JW.iload_n dX3_sureAt_61 rfl ?_
    exact JW.ireturn dX3_sureAt_62 rfl rfl ⟨_, rfl, K⟩
  · have K := K.2 c_1
    refine JW.aload_n dX3_sureAt_14 rfl ?_
    refine JW.mget (v := vR 370) dX3_sureAt_15 fX3_71 rfl ?_
    refine JW.iload_n dX3_sureAt_18 rfl ?_
    obtain ⟨o_2, K⟩ := K
    refine JW.mzld 18 (x := (s.2 18 x3)) dX3_sureAt_19 (Nat.le_of_ble_eq_true rfl) rfl o_2.1 o_2.2 rfl ?_
    refine JW.if_ne (tgt := 26) dX3_sureAt_20 rfl (fun c_3 => ?_) (fun c_3 => ?_)
    · have K := K.1 c_3
      refine JW.aload_n dX3_sureAt_26 rfl ?_
      refine JW.iload_n dX3_sureAt_27 rfl ?_
      obtain ⟨o_4, K⟩ := K
      refine JW.mcall (As := [vI x3]) dX3_sureAt_28 vX3_figures rfl q1810 (ctX3_figures b (sA s 11 f11) x3 o_4) (Nat.le_of_ble_eq_true rfl) rfl (Nat.le_of_ble_eq_true rfl) ?_
      rintro _ _ ⟨rfl, rfl⟩
      refine JW.steq (s2 := sA s 11 (figs ((s.2 6) 0) ((s.2 6) 1) x3 f11)) (by simp only [sA_A, sS_S, sA_S, sA_lt, sS_lt, Nat.reduceLT, id_eq] <;> rfl) ?_
      refine JW.iload_n dX3_sureAt_31 rfl ?_
      refine JW.iconst dX3_sureAt_32 rfl ?_
      refine JW.icmp_eq (tgt := 48) dX3_sureAt_33 rfl (fun c_6 => ?_) (fun c_6 => ?_)
      · have K := K.1 c_6
        refine JW.aload_n dX3_sureAt_48 rfl ?_
        refine JW.mget (v := vR 363) dX3_sureAt_49 fX3_50 rfl ?_
        refine JW.iload_n dX3_sureAt_52 rfl ?_
        obtain ⟨o_7, K⟩ := K
        refine JW.mald 11 (x := ((figs ((s.2 6) 0) ((s.2 6) 1) x3 f11) x1)) dX3_sureAt_53 (Nat.le_of_ble_eq_true rfl) rfl o_7.1 o_7.2 rfl ?_
        refine JW.istore_n (ls' := [(0, vR 351), (1, vI x1), (2, vI ((figs ((s.2 6) 0) ((s.2 6) 1) x3 f11) x1)), (3, vI x3)]) dX3_sureAt_54 (Nat.le_of_ble_eq_true rfl) rfl ?_
        refine JW.iinc (ls' := [(0, vR 351), (1, vI x1), (2, vI ((figs ((s.2 6) 0) ((s.2 6) 1) x3 f11) x1)), (3, vI (i32 (x3 + 1)))]) dX3_sureAt_55 (Nat.le_of_ble_eq_true rfl) rfl rfl ?_
        refine JW.goto (tgt := 4) dX3_sureAt_58 rfl ?_
        exact JW.pick [0, 1, 2, 3] rfl K
      · have K := K.2 c_6
        refine JW.iload_n dX3_sureAt_36 rfl ?_
        refine JW.aload_n dX3_sureAt_37 rfl ?_
        refine JW.mget (v := vR 363) dX3_sureAt_38 fX3_50 rfl ?_
        refine JW.iload_n dX3_sureAt_41 rfl ?_
        obtain ⟨o_8, K⟩ := K
        refine JW.mald 11 (x := ((figs ((s.2 6) 0) ((s.2 6) 1) x3 f11) x1)) dX3_sureAt_42 (Nat.le_of_ble_eq_true rfl) rfl o_8.1 o_8.2 rfl ?_
        refine JW.icmp_eq (tgt := 48) dX3_sureAt_43 rfl (fun c_9 => ?_) (fun c_9 => ?_)
        · have K := K.1 c_9
          refine JW.aload_n dX3_sureAt_48 rfl ?_
          refine JW.mget (v := vR 363) dX3_sureAt_49 fX3_50 rfl ?_
          refine JW.iload_n dX3_sureAt_52 rfl ?_
          refine JW.mald 11 (x := ((figs ((s.2 6) 0) ((s.2 6) 1) x3 f11) x1)) dX3_sureAt_53 (Nat.le_of_ble_eq_true rfl) rfl o_8.1 o_8.2 rfl ?_
          refine JW.istore_n (ls' := [(0, vR 351), (1, vI x1), (2, vI ((figs ((s.2 6) 0) ((s.2 6) 1) x3 f11) x1)), (3, vI x3)]) dX3_sureAt_54 (Nat.le_of_ble_eq_true rfl) rfl ?_
          refine JW.iinc (ls' := [(0, vR 351), (1, vI x1), (2, vI ((figs ((s.2 6) 0) ((s.2 6) 1) x3 f11) x1)), (3, vI (i32 (x3 + 1)))]) dX3_sureAt_55 (Nat.le_of_ble_eq_true rfl) rfl rfl ?_
          refine JW.goto (tgt := 4) dX3_sureAt_58 rfl ?_
          exact JW.pick [0, 1, 2, 3] rfl K
        · have K := K.2 c_9
          refine JW.iconst dX3_sureAt_46 rfl ?_
          exact JW.ireturn dX3_sureAt_47 rfl rfl ⟨_, rfl, K⟩
    · have K := K.2 c_3
      refine JW.goto (tgt := 55) dX3_sureAt_23 rfl ?_
      refine JW.iinc (ls' := [(0, vR 351), (1, vI x1), (2, vI x2), (3, vI (i32 (x3 + 1)))]) dX3_sureAt_55 (Nat.le_of_ble_eq_true rfl) rfl rfl ?_
      refine JW.goto (tgt := 4) dX3_sureAt_58 rfl ?_
      exact JW.pick [0, 1, 2, 3] rfl K
def QX3_sureAt (s : MS) (a1 : Int) : Option AV → MS → Prop := fun v s' => ∃ (f11 : Int → Int) (r : Int), v = some (vI r) ∧ s' = sA s 11 f11 ∧ (sureR (ofB (s.2 18) ((s.2 6) 2)) (fun z => dig ((s.2 6) 0) ((s.2 6) 1) z a1) r)
theorem vX3_sureAt_1 (s : MS) (a1 : Int) (hp : tOK (s.2 6) ∧ (0 ≤ a1 ∧ a1 < (s.2 6) 1) ∧ ∀ z : Int, 0 ≤ z → z < (s.2 6) 2 → (s.2 18) z = 0 ∨ (s.2 18) z = 1) (x1 : Int) (x2 : Int) (x3 : Int) (f11 : Int → Int) (hI : x1 = a1 ∧ (0 ≤ x3 ∧ x3 ≤ s.2 6 2) ∧ SA (ofB (s.2 18) (s.2 6 2)) (fun z => dig (s.2 6 0) (s.2 6 1) z a1) x3 x2) (c_1 : (s.2 6 2) ≤ x3) : sureR (ofB (s.2 18) ((s.2 6) 2)) (fun z => dig ((s.2 6) 0) ((s.2 6) 1) z a1) x2 := by
  obtain ⟨ht, hi, hb⟩ := hp
  have hN := tOK_N ht
  have hL := tOK_L ht
  (try have h01 := hb x3 (by omega) (by omega))
  (try have hd := dig_in' (x := x3) ht a1 hi.1 hi.2)
  (try rw [hI.1] at *)
  (try rw [figs_at (x := x3) hi.1 hi.2] at *)
  (try unfold lex3)
  (try simp only [bI_0, bI_n, Classical.not_not] at *)
  (try simp (disch := omega) only [i32_id] at *)
  first | done | omega | ((repeat' (with_reducible apply And.intro)) <;> first | assumption | rfl | omega | (exact SA_end hI.2.2 (fun z q => by have := q.1; omega)) | (exact SA_n hI.2.2 (fun q => by have := q.2; omega)) | (exact SA_bad hI.2.2 ⟨⟨by omega, by omega⟩, by omega⟩ (by assumption) (by assumption)) | (exact SA_y hI.2.2 hI.2.1.1 ⟨⟨by omega, by omega⟩, by omega⟩ (by show dig _ _ _ _ ≠ _; omega) (by show _ ∨ _ = dig _ _ _ _; omega)) | (exact SA_0 _ _) | grind [upI])
theorem vX3_sureAt_2 (s : MS) (a1 : Int) (hp : tOK (s.2 6) ∧ (0 ≤ a1 ∧ a1 < (s.2 6) 1) ∧ ∀ z : Int, 0 ≤ z → z < (s.2 6) 2 → (s.2 18) z = 0 ∨ (s.2 18) z = 1) (x1 : Int) (x2 : Int) (x3 : Int) (f11 : Int → Int) (hI : x1 = a1 ∧ (0 ≤ x3 ∧ x3 ≤ s.2 6 2) ∧ SA (ofB (s.2 18) (s.2 6 2)) (fun z => dig (s.2 6 0) (s.2 6 1) z a1) x3 x2) (c_1 : ¬ (s.2 6 2) ≤ x3) : (0 ≤ x3 ∧ x3 < 10000) := by
  obtain ⟨ht, hi, hb⟩ := hp
  have hN := tOK_N ht
  have hL := tOK_L ht
  (try have h01 := hb x3 (by omega) (by omega))
  (try have hd := dig_in' (x := x3) ht a1 hi.1 hi.2)
  (try rw [hI.1] at *)
  (try rw [figs_at (x := x3) hi.1 hi.2] at *)
  (try unfold lex3)
  (try simp only [bI_0, bI_n, Classical.not_not] at *)
  (try simp (disch := omega) only [i32_id] at *)
  first | done | omega | ((repeat' (with_reducible apply And.intro)) <;> first | assumption | rfl | omega | (exact SA_end hI.2.2 (fun z q => by have := q.1; omega)) | (exact SA_n hI.2.2 (fun q => by have := q.2; omega)) | (exact SA_bad hI.2.2 ⟨⟨by omega, by omega⟩, by omega⟩ (by assumption) (by assumption)) | (exact SA_y hI.2.2 hI.2.1.1 ⟨⟨by omega, by omega⟩, by omega⟩ (by show dig _ _ _ _ ≠ _; omega) (by show _ ∨ _ = dig _ _ _ _; omega)) | (exact SA_0 _ _) | grind [upI])
theorem vX3_sureAt_3 (s : MS) (a1 : Int) (hp : tOK (s.2 6) ∧ (0 ≤ a1 ∧ a1 < (s.2 6) 1) ∧ ∀ z : Int, 0 ≤ z → z < (s.2 6) 2 → (s.2 18) z = 0 ∨ (s.2 18) z = 1) (x1 : Int) (x2 : Int) (x3 : Int) (f11 : Int → Int) (hI : x1 = a1 ∧ (0 ≤ x3 ∧ x3 ≤ s.2 6 2) ∧ SA (ofB (s.2 18) (s.2 6 2)) (fun z => dig (s.2 6 0) (s.2 6 1) z a1) x3 x2) (c_1 : ¬ (s.2 6 2) ≤ x3) (o_2 : (0 ≤ x3 ∧ x3 < 10000)) (c_3 : ¬ (s.2 18 x3) = 0) : (tOK (s.2 6) ∧ 0 ≤ x3 ∧ x3 ≤ 100000) := by
  obtain ⟨ht, hi, hb⟩ := hp
  have hN := tOK_N ht
  have hL := tOK_L ht
  (try have h01 := hb x3 (by omega) (by omega))
  (try have hd := dig_in' (x := x3) ht a1 hi.1 hi.2)
  (try rw [hI.1] at *)
  (try rw [figs_at (x := x3) hi.1 hi.2] at *)
  (try unfold lex3)
  (try simp only [bI_0, bI_n, Classical.not_not] at *)
  (try simp (disch := omega) only [i32_id] at *)
  first | done | omega | ((repeat' (with_reducible apply And.intro)) <;> first | assumption | rfl | omega | (exact SA_end hI.2.2 (fun z q => by have := q.1; omega)) | (exact SA_n hI.2.2 (fun q => by have := q.2; omega)) | (exact SA_bad hI.2.2 ⟨⟨by omega, by omega⟩, by omega⟩ (by assumption) (by assumption)) | (exact SA_y hI.2.2 hI.2.1.1 ⟨⟨by omega, by omega⟩, by omega⟩ (by show dig _ _ _ _ ≠ _; omega) (by show _ ∨ _ = dig _ _ _ _; omega)) | (exact SA_0 _ _) | grind [upI])
theorem vX3_sureAt_4 (s : MS) (a1 : Int) (hp : tOK (s.2 6) ∧ (0 ≤ a1 ∧ a1 < (s.2 6) 1) ∧ ∀ z : Int, 0 ≤ z → z < (s.2 6) 2 → (s.2 18) z = 0 ∨ (s.2 18) z = 1) (x1 : Int) (x2 : Int) (x3 : Int) (f11 : Int → Int) (hI : x1 = a1 ∧ (0 ≤ x3 ∧ x3 ≤ s.2 6 2) ∧ SA (ofB (s.2 18) (s.2 6 2)) (fun z => dig (s.2 6 0) (s.2 6 1) z a1) x3 x2) (c_1 : ¬ (s.2 6 2) ≤ x3) (o_2 : (0 ≤ x3 ∧ x3 < 10000)) (c_3 : ¬ (s.2 18 x3) = 0) (o_4 : (tOK (s.2 6) ∧ 0 ≤ x3 ∧ x3 ≤ 100000)) (c_6 : x2 = (-1)) : (0 ≤ x1 ∧ x1 < 8) := by
  obtain ⟨ht, hi, hb⟩ := hp
  have hN := tOK_N ht
  have hL := tOK_L ht
  (try have h01 := hb x3 (by omega) (by omega))
  (try have hd := dig_in' (x := x3) ht a1 hi.1 hi.2)
  (try rw [hI.1] at *)
  (try rw [figs_at (x := x3) hi.1 hi.2] at *)
  (try unfold lex3)
  (try simp only [bI_0, bI_n, Classical.not_not] at *)
  (try simp (disch := omega) only [i32_id] at *)
  first | done | omega | ((repeat' (with_reducible apply And.intro)) <;> first | assumption | rfl | omega | (exact SA_end hI.2.2 (fun z q => by have := q.1; omega)) | (exact SA_n hI.2.2 (fun q => by have := q.2; omega)) | (exact SA_bad hI.2.2 ⟨⟨by omega, by omega⟩, by omega⟩ (by assumption) (by assumption)) | (exact SA_y hI.2.2 hI.2.1.1 ⟨⟨by omega, by omega⟩, by omega⟩ (by show dig _ _ _ _ ≠ _; omega) (by show _ ∨ _ = dig _ _ _ _; omega)) | (exact SA_0 _ _) | grind [upI])
theorem vX3_sureAt_5 (s : MS) (a1 : Int) (hp : tOK (s.2 6) ∧ (0 ≤ a1 ∧ a1 < (s.2 6) 1) ∧ ∀ z : Int, 0 ≤ z → z < (s.2 6) 2 → (s.2 18) z = 0 ∨ (s.2 18) z = 1) (x1 : Int) (x2 : Int) (x3 : Int) (f11 : Int → Int) (hI : x1 = a1 ∧ (0 ≤ x3 ∧ x3 ≤ s.2 6 2) ∧ SA (ofB (s.2 18) (s.2 6 2)) (fun z => dig (s.2 6 0) (s.2 6 1) z a1) x3 x2) (c_1 : ¬ (s.2 6 2) ≤ x3) (o_2 : (0 ≤ x3 ∧ x3 < 10000)) (c_3 : ¬ (s.2 18 x3) = 0) (o_4 : (tOK (s.2 6) ∧ 0 ≤ x3 ∧ x3 ≤ 100000)) (c_6 : x2 = (-1)) (o_7 : (0 ≤ x1 ∧ x1 < 8)) : x1 = a1 ∧ (0 ≤ (i32 (x3 + 1)) ∧ (i32 (x3 + 1)) ≤ s.2 6 2) ∧ SA (ofB (s.2 18) (s.2 6 2)) (fun z => dig (s.2 6 0) (s.2 6 1) z a1) (i32 (x3 + 1)) ((figs ((s.2 6) 0) ((s.2 6) 1) x3 f11) x1) := by
  obtain ⟨ht, hi, hb⟩ := hp
  have hN := tOK_N ht
  have hL := tOK_L ht
  (try have h01 := hb x3 (by omega) (by omega))
  (try have hd := dig_in' (x := x3) ht a1 hi.1 hi.2)
  (try rw [hI.1] at *)
  (try rw [figs_at (x := x3) hi.1 hi.2] at *)
  (try unfold lex3)
  (try simp only [bI_0, bI_n, Classical.not_not] at *)
  (try simp (disch := omega) only [i32_id] at *)
  first | done | omega | ((repeat' (with_reducible apply And.intro)) <;> first | assumption | rfl | omega | (exact SA_end hI.2.2 (fun z q => by have := q.1; omega)) | (exact SA_n hI.2.2 (fun q => by have := q.2; omega)) | (exact SA_bad hI.2.2 ⟨⟨by omega, by omega⟩, by omega⟩ (by assumption) (by assumption)) | (exact SA_y hI.2.2 hI.2.1.1 ⟨⟨by omega, by omega⟩, by omega⟩ (by show dig _ _ _ _ ≠ _; omega) (by show _ ∨ _ = dig _ _ _ _; omega)) | (exact SA_0 _ _) | grind [upI])
theorem vX3_sureAt_6 (s : MS) (a1 : Int) (hp : tOK (s.2 6) ∧ (0 ≤ a1 ∧ a1 < (s.2 6) 1) ∧ ∀ z : Int, 0 ≤ z → z < (s.2 6) 2 → (s.2 18) z = 0 ∨ (s.2 18) z = 1) (x1 : Int) (x2 : Int) (x3 : Int) (f11 : Int → Int) (hI : x1 = a1 ∧ (0 ≤ x3 ∧ x3 ≤ s.2 6 2) ∧ SA (ofB (s.2 18) (s.2 6 2)) (fun z => dig (s.2 6 0) (s.2 6 1) z a1) x3 x2) (c_1 : ¬ (s.2 6 2) ≤ x3) (o_2 : (0 ≤ x3 ∧ x3 < 10000)) (c_3 : ¬ (s.2 18 x3) = 0) (o_4 : (tOK (s.2 6) ∧ 0 ≤ x3 ∧ x3 ≤ 100000)) (c_6 : x2 = (-1)) (o_7 : (0 ≤ x1 ∧ x1 < 8)) : lex3 0 0 ((s.2 6 2 - (i32 (x3 + 1))).toNat) 0 0 ((s.2 6 2 - x3).toNat) := by
  obtain ⟨ht, hi, hb⟩ := hp
  have hN := tOK_N ht
  have hL := tOK_L ht
  (try have h01 := hb x3 (by omega) (by omega))
  (try have hd := dig_in' (x := x3) ht a1 hi.1 hi.2)
  (try rw [hI.1] at *)
  (try rw [figs_at (x := x3) hi.1 hi.2] at *)
  (try unfold lex3)
  (try simp only [bI_0, bI_n, Classical.not_not] at *)
  (try simp (disch := omega) only [i32_id] at *)
  first | done | omega | ((repeat' (with_reducible apply And.intro)) <;> first | assumption | rfl | omega | (exact SA_end hI.2.2 (fun z q => by have := q.1; omega)) | (exact SA_n hI.2.2 (fun q => by have := q.2; omega)) | (exact SA_bad hI.2.2 ⟨⟨by omega, by omega⟩, by omega⟩ (by assumption) (by assumption)) | (exact SA_y hI.2.2 hI.2.1.1 ⟨⟨by omega, by omega⟩, by omega⟩ (by show dig _ _ _ _ ≠ _; omega) (by show _ ∨ _ = dig _ _ _ _; omega)) | (exact SA_0 _ _) | grind [upI])
theorem vX3_sureAt_7 (s : MS) (a1 : Int) (hp : tOK (s.2 6) ∧ (0 ≤ a1 ∧ a1 < (s.2 6) 1) ∧ ∀ z : Int, 0 ≤ z → z < (s.2 6) 2 → (s.2 18) z = 0 ∨ (s.2 18) z = 1) (x1 : Int) (x2 : Int) (x3 : Int) (f11 : Int → Int) (hI : x1 = a1 ∧ (0 ≤ x3 ∧ x3 ≤ s.2 6 2) ∧ SA (ofB (s.2 18) (s.2 6 2)) (fun z => dig (s.2 6 0) (s.2 6 1) z a1) x3 x2) (c_1 : ¬ (s.2 6 2) ≤ x3) (o_2 : (0 ≤ x3 ∧ x3 < 10000)) (c_3 : ¬ (s.2 18 x3) = 0) (o_4 : (tOK (s.2 6) ∧ 0 ≤ x3 ∧ x3 ≤ 100000)) (c_6 : ¬ x2 = (-1)) : (0 ≤ x1 ∧ x1 < 8) := by
  obtain ⟨ht, hi, hb⟩ := hp
  have hN := tOK_N ht
  have hL := tOK_L ht
  (try have h01 := hb x3 (by omega) (by omega))
  (try have hd := dig_in' (x := x3) ht a1 hi.1 hi.2)
  (try rw [hI.1] at *)
  (try rw [figs_at (x := x3) hi.1 hi.2] at *)
  (try unfold lex3)
  (try simp only [bI_0, bI_n, Classical.not_not] at *)
  (try simp (disch := omega) only [i32_id] at *)
  first | done | omega | ((repeat' (with_reducible apply And.intro)) <;> first | assumption | rfl | omega | (exact SA_end hI.2.2 (fun z q => by have := q.1; omega)) | (exact SA_n hI.2.2 (fun q => by have := q.2; omega)) | (exact SA_bad hI.2.2 ⟨⟨by omega, by omega⟩, by omega⟩ (by assumption) (by assumption)) | (exact SA_y hI.2.2 hI.2.1.1 ⟨⟨by omega, by omega⟩, by omega⟩ (by show dig _ _ _ _ ≠ _; omega) (by show _ ∨ _ = dig _ _ _ _; omega)) | (exact SA_0 _ _) | grind [upI])
theorem vX3_sureAt_8 (s : MS) (a1 : Int) (hp : tOK (s.2 6) ∧ (0 ≤ a1 ∧ a1 < (s.2 6) 1) ∧ ∀ z : Int, 0 ≤ z → z < (s.2 6) 2 → (s.2 18) z = 0 ∨ (s.2 18) z = 1) (x1 : Int) (x2 : Int) (x3 : Int) (f11 : Int → Int) (hI : x1 = a1 ∧ (0 ≤ x3 ∧ x3 ≤ s.2 6 2) ∧ SA (ofB (s.2 18) (s.2 6 2)) (fun z => dig (s.2 6 0) (s.2 6 1) z a1) x3 x2) (c_1 : ¬ (s.2 6 2) ≤ x3) (o_2 : (0 ≤ x3 ∧ x3 < 10000)) (c_3 : ¬ (s.2 18 x3) = 0) (o_4 : (tOK (s.2 6) ∧ 0 ≤ x3 ∧ x3 ≤ 100000)) (c_6 : ¬ x2 = (-1)) (o_8 : (0 ≤ x1 ∧ x1 < 8)) (c_9 : x2 = ((figs ((s.2 6) 0) ((s.2 6) 1) x3 f11) x1)) : x1 = a1 ∧ (0 ≤ (i32 (x3 + 1)) ∧ (i32 (x3 + 1)) ≤ s.2 6 2) ∧ SA (ofB (s.2 18) (s.2 6 2)) (fun z => dig (s.2 6 0) (s.2 6 1) z a1) (i32 (x3 + 1)) ((figs ((s.2 6) 0) ((s.2 6) 1) x3 f11) x1) := by
  obtain ⟨ht, hi, hb⟩ := hp
  have hN := tOK_N ht
  have hL := tOK_L ht
  (try have h01 := hb x3 (by omega) (by omega))
  (try have hd := dig_in' (x := x3) ht a1 hi.1 hi.2)
  (try rw [hI.1] at *)
  (try rw [figs_at (x := x3) hi.1 hi.2] at *)
  (try unfold lex3)
  (try simp only [bI_0, bI_n, Classical.not_not] at *)
  (try simp (disch := omega) only [i32_id] at *)
  first | done | omega | ((repeat' (with_reducible apply And.intro)) <;> first | assumption | rfl | omega | (exact SA_end hI.2.2 (fun z q => by have := q.1; omega)) | (exact SA_n hI.2.2 (fun q => by have := q.2; omega)) | (exact SA_bad hI.2.2 ⟨⟨by omega, by omega⟩, by omega⟩ (by assumption) (by assumption)) | (exact SA_y hI.2.2 hI.2.1.1 ⟨⟨by omega, by omega⟩, by omega⟩ (by show dig _ _ _ _ ≠ _; omega) (by show _ ∨ _ = dig _ _ _ _; omega)) | (exact SA_0 _ _) | grind [upI])
theorem vX3_sureAt_9 (s : MS) (a1 : Int) (hp : tOK (s.2 6) ∧ (0 ≤ a1 ∧ a1 < (s.2 6) 1) ∧ ∀ z : Int, 0 ≤ z → z < (s.2 6) 2 → (s.2 18) z = 0 ∨ (s.2 18) z = 1) (x1 : Int) (x2 : Int) (x3 : Int) (f11 : Int → Int) (hI : x1 = a1 ∧ (0 ≤ x3 ∧ x3 ≤ s.2 6 2) ∧ SA (ofB (s.2 18) (s.2 6 2)) (fun z => dig (s.2 6 0) (s.2 6 1) z a1) x3 x2) (c_1 : ¬ (s.2 6 2) ≤ x3) (o_2 : (0 ≤ x3 ∧ x3 < 10000)) (c_3 : ¬ (s.2 18 x3) = 0) (o_4 : (tOK (s.2 6) ∧ 0 ≤ x3 ∧ x3 ≤ 100000)) (c_6 : ¬ x2 = (-1)) (o_8 : (0 ≤ x1 ∧ x1 < 8)) (c_9 : x2 = ((figs ((s.2 6) 0) ((s.2 6) 1) x3 f11) x1)) : lex3 0 0 ((s.2 6 2 - (i32 (x3 + 1))).toNat) 0 0 ((s.2 6 2 - x3).toNat) := by
  obtain ⟨ht, hi, hb⟩ := hp
  have hN := tOK_N ht
  have hL := tOK_L ht
  (try have h01 := hb x3 (by omega) (by omega))
  (try have hd := dig_in' (x := x3) ht a1 hi.1 hi.2)
  (try rw [hI.1] at *)
  (try rw [figs_at (x := x3) hi.1 hi.2] at *)
  (try unfold lex3)
  (try simp only [bI_0, bI_n, Classical.not_not] at *)
  (try simp (disch := omega) only [i32_id] at *)
  first | done | omega | ((repeat' (with_reducible apply And.intro)) <;> first | assumption | rfl | omega | (exact SA_end hI.2.2 (fun z q => by have := q.1; omega)) | (exact SA_n hI.2.2 (fun q => by have := q.2; omega)) | (exact SA_bad hI.2.2 ⟨⟨by omega, by omega⟩, by omega⟩ (by assumption) (by assumption)) | (exact SA_y hI.2.2 hI.2.1.1 ⟨⟨by omega, by omega⟩, by omega⟩ (by show dig _ _ _ _ ≠ _; omega) (by show _ ∨ _ = dig _ _ _ _; omega)) | (exact SA_0 _ _) | grind [upI])
theorem vX3_sureAt_10 (s : MS) (a1 : Int) (hp : tOK (s.2 6) ∧ (0 ≤ a1 ∧ a1 < (s.2 6) 1) ∧ ∀ z : Int, 0 ≤ z → z < (s.2 6) 2 → (s.2 18) z = 0 ∨ (s.2 18) z = 1) (x1 : Int) (x2 : Int) (x3 : Int) (f11 : Int → Int) (hI : x1 = a1 ∧ (0 ≤ x3 ∧ x3 ≤ s.2 6 2) ∧ SA (ofB (s.2 18) (s.2 6 2)) (fun z => dig (s.2 6 0) (s.2 6 1) z a1) x3 x2) (c_1 : ¬ (s.2 6 2) ≤ x3) (o_2 : (0 ≤ x3 ∧ x3 < 10000)) (c_3 : ¬ (s.2 18 x3) = 0) (o_4 : (tOK (s.2 6) ∧ 0 ≤ x3 ∧ x3 ≤ 100000)) (c_6 : ¬ x2 = (-1)) (o_8 : (0 ≤ x1 ∧ x1 < 8)) (c_9 : ¬ x2 = ((figs ((s.2 6) 0) ((s.2 6) 1) x3 f11) x1)) : sureR (ofB (s.2 18) ((s.2 6) 2)) (fun z => dig ((s.2 6) 0) ((s.2 6) 1) z a1) (-1) := by
  obtain ⟨ht, hi, hb⟩ := hp
  have hN := tOK_N ht
  have hL := tOK_L ht
  (try have h01 := hb x3 (by omega) (by omega))
  (try have hd := dig_in' (x := x3) ht a1 hi.1 hi.2)
  (try rw [hI.1] at *)
  (try rw [figs_at (x := x3) hi.1 hi.2] at *)
  (try unfold lex3)
  (try simp only [bI_0, bI_n, Classical.not_not] at *)
  (try simp (disch := omega) only [i32_id] at *)
  first | done | omega | ((repeat' (with_reducible apply And.intro)) <;> first | assumption | rfl | omega | (exact SA_end hI.2.2 (fun z q => by have := q.1; omega)) | (exact SA_n hI.2.2 (fun q => by have := q.2; omega)) | (exact SA_bad hI.2.2 ⟨⟨by omega, by omega⟩, by omega⟩ (by assumption) (by assumption)) | (exact SA_y hI.2.2 hI.2.1.1 ⟨⟨by omega, by omega⟩, by omega⟩ (by show dig _ _ _ _ ≠ _; omega) (by show _ ∨ _ = dig _ _ _ _; omega)) | (exact SA_0 _ _) | grind [upI])
theorem vX3_sureAt_11 (s : MS) (a1 : Int) (hp : tOK (s.2 6) ∧ (0 ≤ a1 ∧ a1 < (s.2 6) 1) ∧ ∀ z : Int, 0 ≤ z → z < (s.2 6) 2 → (s.2 18) z = 0 ∨ (s.2 18) z = 1) (x1 : Int) (x2 : Int) (x3 : Int) (f11 : Int → Int) (hI : x1 = a1 ∧ (0 ≤ x3 ∧ x3 ≤ s.2 6 2) ∧ SA (ofB (s.2 18) (s.2 6 2)) (fun z => dig (s.2 6 0) (s.2 6 1) z a1) x3 x2) (c_1 : ¬ (s.2 6 2) ≤ x3) (o_2 : (0 ≤ x3 ∧ x3 < 10000)) (c_3 : (s.2 18 x3) = 0) : x1 = a1 ∧ (0 ≤ (i32 (x3 + 1)) ∧ (i32 (x3 + 1)) ≤ s.2 6 2) ∧ SA (ofB (s.2 18) (s.2 6 2)) (fun z => dig (s.2 6 0) (s.2 6 1) z a1) (i32 (x3 + 1)) x2 := by
  obtain ⟨ht, hi, hb⟩ := hp
  have hN := tOK_N ht
  have hL := tOK_L ht
  (try have h01 := hb x3 (by omega) (by omega))
  (try have hd := dig_in' (x := x3) ht a1 hi.1 hi.2)
  (try rw [hI.1] at *)
  (try rw [figs_at (x := x3) hi.1 hi.2] at *)
  (try unfold lex3)
  (try simp only [bI_0, bI_n, Classical.not_not] at *)
  (try simp (disch := omega) only [i32_id] at *)
  first | done | omega | ((repeat' (with_reducible apply And.intro)) <;> first | assumption | rfl | omega | (exact SA_end hI.2.2 (fun z q => by have := q.1; omega)) | (exact SA_n hI.2.2 (fun q => by have := q.2; omega)) | (exact SA_bad hI.2.2 ⟨⟨by omega, by omega⟩, by omega⟩ (by assumption) (by assumption)) | (exact SA_y hI.2.2 hI.2.1.1 ⟨⟨by omega, by omega⟩, by omega⟩ (by show dig _ _ _ _ ≠ _; omega) (by show _ ∨ _ = dig _ _ _ _; omega)) | (exact SA_0 _ _) | grind [upI])
theorem vX3_sureAt_12 (s : MS) (a1 : Int) (hp : tOK (s.2 6) ∧ (0 ≤ a1 ∧ a1 < (s.2 6) 1) ∧ ∀ z : Int, 0 ≤ z → z < (s.2 6) 2 → (s.2 18) z = 0 ∨ (s.2 18) z = 1) (x1 : Int) (x2 : Int) (x3 : Int) (f11 : Int → Int) (hI : x1 = a1 ∧ (0 ≤ x3 ∧ x3 ≤ s.2 6 2) ∧ SA (ofB (s.2 18) (s.2 6 2)) (fun z => dig (s.2 6 0) (s.2 6 1) z a1) x3 x2) (c_1 : ¬ (s.2 6 2) ≤ x3) (o_2 : (0 ≤ x3 ∧ x3 < 10000)) (c_3 : (s.2 18 x3) = 0) : lex3 0 0 ((s.2 6 2 - (i32 (x3 + 1))).toNat) 0 0 ((s.2 6 2 - x3).toNat) := by
  obtain ⟨ht, hi, hb⟩ := hp
  have hN := tOK_N ht
  have hL := tOK_L ht
  (try have h01 := hb x3 (by omega) (by omega))
  (try have hd := dig_in' (x := x3) ht a1 hi.1 hi.2)
  (try rw [hI.1] at *)
  (try rw [figs_at (x := x3) hi.1 hi.2] at *)
  (try unfold lex3)
  (try simp only [bI_0, bI_n, Classical.not_not] at *)
  (try simp (disch := omega) only [i32_id] at *)
  first | done | omega | ((repeat' (with_reducible apply And.intro)) <;> first | assumption | rfl | omega | (exact SA_end hI.2.2 (fun z q => by have := q.1; omega)) | (exact SA_n hI.2.2 (fun q => by have := q.2; omega)) | (exact SA_bad hI.2.2 ⟨⟨by omega, by omega⟩, by omega⟩ (by assumption) (by assumption)) | (exact SA_y hI.2.2 hI.2.1.1 ⟨⟨by omega, by omega⟩, by omega⟩ (by show dig _ _ _ _ ≠ _; omega) (by show _ ∨ _ = dig _ _ _ _; omega)) | (exact SA_0 _ _) | grind [upI])
theorem vX3_sureAt_13 (s : MS) (a1 : Int) (hp : tOK (s.2 6) ∧ (0 ≤ a1 ∧ a1 < (s.2 6) 1) ∧ ∀ z : Int, 0 ≤ z → z < (s.2 6) 2 → (s.2 18) z = 0 ∨ (s.2 18) z = 1) : a1 = a1 ∧ (0 ≤ (0 : Int) ∧ (0 : Int) ≤ s.2 6 2) ∧ SA (ofB (s.2 18) (s.2 6 2)) (fun z => dig (s.2 6 0) (s.2 6 1) z a1) (0 : Int) ((-1) : Int) := by
  obtain ⟨ht, hi, hb⟩ := hp
  have hN := tOK_N ht
  have hL := tOK_L ht
  (try have h01 := hb x3 (by omega) (by omega))
  (try have hd := dig_in' (x := x3) ht a1 hi.1 hi.2)
  (try rw [hI.1] at *)
  (try rw [figs_at (x := x3) hi.1 hi.2] at *)
  (try unfold lex3)
  (try simp only [bI_0, bI_n, Classical.not_not] at *)
  (try simp (disch := omega) only [i32_id] at *)
  first | done | omega | ((repeat' (with_reducible apply And.intro)) <;> first | assumption | rfl | omega | (exact SA_end hI.2.2 (fun z q => by have := q.1; omega)) | (exact SA_n hI.2.2 (fun q => by have := q.2; omega)) | (exact SA_bad hI.2.2 ⟨⟨by omega, by omega⟩, by omega⟩ (by assumption) (by assumption)) | (exact SA_y hI.2.2 hI.2.1.1 ⟨⟨by omega, by omega⟩, by omega⟩ (by show dig _ _ _ _ ≠ _; omega) (by show _ ∨ _ = dig _ _ _ _; omega)) | (exact SA_0 _ _) | grind [upI])
theorem allX3_sureAt (b : AH) (s : MS) (a1 : Int) (hp : tOK (s.2 6) ∧ (0 ≤ a1 ∧ a1 < (s.2 6) 1) ∧ ∀ z : Int, 0 ≤ z → z < (s.2 6) 2 → (s.2 18) z = 0 ∨ (s.2 18) z = 1) : ∀ m1 m2 m3 : Nat, (∀ (x1 : Int) (x2 : Int) (x3 : Int) (f11 : Int → Int), m1 = 0 → m2 = 0 → m3 = ((s.2 6 2 - x3).toNat) → (x1 = a1 ∧ (0 ≤ x3 ∧ x3 ≤ s.2 6 2) ∧ SA (ofB (s.2 18) (s.2 6 2)) (fun z => dig (s.2 6 0) (s.2 6 1) z a1) x3 x2) → HX3_sureAt_4 (QX3_sureAt s a1) b s x1 x2 x3 f11) := by
  refine lex3_ind ?_
  intro m1 m2 m3 ih
  rintro x1 x2 x3 f11 rfl rfl rfl hI
  refine bX3_sureAt_4 b s x1 x2 x3 f11 ?_
  refine ⟨fun c_1 => ?_, fun c_1 => ?_⟩
  · exact ⟨f11, x2, rfl, rfl, (vX3_sureAt_1 s a1 hp x1 x2 x3 f11 hI c_1)⟩
  · have o_2 : (0 ≤ x3 ∧ x3 < 10000) := (vX3_sureAt_2 s a1 hp x1 x2 x3 f11 hI c_1)
    refine ⟨o_2, ?_⟩
    refine ⟨fun c_3 => ?_, fun c_3 => ?_⟩
    · have o_4 : (tOK (s.2 6) ∧ 0 ≤ x3 ∧ x3 ≤ 100000) := (vX3_sureAt_3 s a1 hp x1 x2 x3 f11 hI c_1 o_2 c_3)
      refine ⟨o_4, ?_⟩
      refine ⟨fun c_6 => ?_, fun c_6 => ?_⟩
      · have o_7 : (0 ≤ x1 ∧ x1 < 8) := (vX3_sureAt_4 s a1 hp x1 x2 x3 f11 hI c_1 o_2 c_3 o_4 c_6)
        refine ⟨o_7, ?_⟩
        exact (ih _ _ _ (vX3_sureAt_6 s a1 hp x1 x2 x3 f11 hI c_1 o_2 c_3 o_4 c_6 o_7)) x1 ((figs ((s.2 6) 0) ((s.2 6) 1) x3 f11) x1) (i32 (x3 + 1)) (figs ((s.2 6) 0) ((s.2 6) 1) x3 f11) rfl rfl rfl (vX3_sureAt_5 s a1 hp x1 x2 x3 f11 hI c_1 o_2 c_3 o_4 c_6 o_7)
      · have o_8 : (0 ≤ x1 ∧ x1 < 8) := (vX3_sureAt_7 s a1 hp x1 x2 x3 f11 hI c_1 o_2 c_3 o_4 c_6)
        refine ⟨o_8, ?_⟩
        refine ⟨fun c_9 => ?_, fun c_9 => ?_⟩
        · exact (ih _ _ _ (vX3_sureAt_9 s a1 hp x1 x2 x3 f11 hI c_1 o_2 c_3 o_4 c_6 o_8 c_9)) x1 ((figs ((s.2 6) 0) ((s.2 6) 1) x3 f11) x1) (i32 (x3 + 1)) (figs ((s.2 6) 0) ((s.2 6) 1) x3 f11) rfl rfl rfl (vX3_sureAt_8 s a1 hp x1 x2 x3 f11 hI c_1 o_2 c_3 o_4 c_6 o_8 c_9)
        · exact ⟨(figs ((s.2 6) 0) ((s.2 6) 1) x3 f11), (-1), rfl, rfl, (vX3_sureAt_10 s a1 hp x1 x2 x3 f11 hI c_1 o_2 c_3 o_4 c_6 o_8 c_9)⟩
    · exact (ih _ _ _ (vX3_sureAt_12 s a1 hp x1 x2 x3 f11 hI c_1 o_2 c_3)) x1 x2 (i32 (x3 + 1)) f11 rfl rfl rfl (vX3_sureAt_11 s a1 hp x1 x2 x3 f11 hI c_1 o_2 c_3)
theorem ctX3_sureAt (b : AH) (s : MS) (a1 : Int) (hp : tOK (s.2 6) ∧ (0 ≤ a1 ∧ a1 < (s.2 6) 1) ∧ ∀ z : Int, 0 ≤ z → z < (s.2 6) 2 → (s.2 18) z = 0 ∨ (s.2 18) z = 1) : MC mX3_sureAt 2 b s [vI a1] (QX3_sureAt s a1) := by
  refine MC.of (by decide) rfl (Nat.le_of_ble_eq_true rfl) (JW.steq (s2 := sA s 11 (s.2 11)) (by simp only [sA_id, sS_id]) ?_)
  refine bX3_sureAt_0 b s a1 (s.2 11) ?_
  exact (allX3_sureAt b s a1 hp _ _ _) a1 (-1) 0 (s.2 11) rfl rfl rfl (vX3_sureAt_13 s a1 hp)
