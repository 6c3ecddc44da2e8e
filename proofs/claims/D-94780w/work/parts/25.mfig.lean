/-! contracts of the reference: in figures sorts up down turned moved powers leftOut -/
set_option maxRecDepth 100000
def HX3_in_0 (Q : Option AV → MS → Prop) (b : AH) (s : MS) (x0 : Int) (x2 : Int) (x4 : Int) : Prop := MW mX3_in 1 Q b 0 [(0, vL x0), (2, vL x2), (4, vL x4)] [] s
theorem bX3_in_0 {Q : Option AV → MS → Prop} (b : AH) (s : MS) (x0 : Int) (x2 : Int) (x4 : Int) (K : ((jcmp x0 x2) < 0 → Q (some (vI 0)) s) ∧ (¬ (jcmp x0 x2) < 0 → (0 < (jcmp x0 x4) → Q (some (vI 0)) s) ∧ (¬ 0 < (jcmp x0 x4) → Q (some (vI 1)) s))) : HX3_in_0 Q b s x0 x2 x4 := by
  refine JW.lload_n dX3_in_0 rfl ?_
  refine JW.lload_n dX3_in_1 rfl ?_
  refine JW.lcmp dX3_in_2 ?_
  refine JW.if_lt (tgt := 17) dX3_in_3 rfl (fun c_1 => ?_) (fun c_1 => ?_)
  · have K := K.1 c_1
    refine JW.iconst dX3_in_17 rfl ?_
    exact JW.zreturn dX3_in_18 rfl (Or.inl rfl) ⟨_, rfl, K⟩
  · have K := K.2 c_1
    refine JW.lload_n dX3_in_6 rfl ?_
    refine JW.lload dX3_in_7 rfl ?_
    refine JW.lcmp dX3_in_9 ?_
    refine JW.if_gt (tgt := 17) dX3_in_10 rfl (fun c_2 => ?_) (fun c_2 => ?_)
    · have K := K.1 c_2
      refine JW.iconst dX3_in_17 rfl ?_
      exact JW.zreturn dX3_in_18 rfl (Or.inl rfl) ⟨_, rfl, K⟩
    · have K := K.2 c_2
      refine JW.iconst dX3_in_13 rfl ?_
      refine JW.goto (tgt := 18) dX3_in_14 rfl ?_
      exact JW.zreturn dX3_in_18 rfl (Or.inr rfl) ⟨_, rfl, K⟩
def QX3_in (s : MS) (a1 : Int) (a2 : Int) (a3 : Int) : Option AV → MS → Prop := fun v s' => v = some (vI (bI (a2 ≤ a1 ∧ a1 ≤ a3))) ∧ s' = s
theorem vX3_in_1 (s : MS) (a1 : Int) (a2 : Int) (a3 : Int) (c_1 : (jcmp a1 a2) < 0) : 0 = (bI (a2 ≤ a1 ∧ a1 ≤ a3)) := by
  simp only [jlt, jgt, jle, jge] at *
  unfold bI
  grind
theorem vX3_in_2 (s : MS) (a1 : Int) (a2 : Int) (a3 : Int) (c_1 : ¬ (jcmp a1 a2) < 0) (c_2 : 0 < (jcmp a1 a3)) : 0 = (bI (a2 ≤ a1 ∧ a1 ≤ a3)) := by
  simp only [jlt, jgt, jle, jge] at *
  unfold bI
  grind
theorem vX3_in_3 (s : MS) (a1 : Int) (a2 : Int) (a3 : Int) (c_1 : ¬ (jcmp a1 a2) < 0) (c_2 : ¬ 0 < (jcmp a1 a3)) : 1 = (bI (a2 ≤ a1 ∧ a1 ≤ a3)) := by
  simp only [jlt, jgt, jle, jge] at *
  unfold bI
  grind
theorem ctX3_in (b : AH) (s : MS) (a1 : Int) (a2 : Int) (a3 : Int) : MCS mX3_in 1 b s [vL a1, vL a2, vL a3] (QX3_in s a1 a2 a3) := by
  refine MCS.of (by decide) rfl (Nat.le_of_ble_eq_true rfl) ?_
  refine bX3_in_0 b s a1 a2 a3 ?_
  refine ⟨fun c_1 => ?_, fun c_1 => ?_⟩
  · exact ⟨(rI_c (vX3_in_1 s a1 a2 a3 c_1)), rfl⟩
  · refine ⟨fun c_2 => ?_, fun c_2 => ?_⟩
    · exact ⟨(rI_c (vX3_in_2 s a1 a2 a3 c_1 c_2)), rfl⟩
    · exact ⟨(rI_c (vX3_in_3 s a1 a2 a3 c_1 c_2)), rfl⟩
def HX3_figures_0 (Q : Option AV → MS → Prop) (b : AH) (s : MS) (x1 : Int) (f11 : Int → Int) : Prop := MW mX3_figures 1 Q b 0 [(0, vR 351), (1, vI x1)] [] (sA s 11 f11)
def HX3_figures_11 (Q : Option AV → MS → Prop) (b : AH) (s : MS) (x2 : Int) (x3 : Int) (f11 : Int → Int) : Prop := MW mX3_figures 1 Q b 11 [(0, vR 351), (2, vI x2), (3, vI x3)] [] (sA s 11 f11)
theorem bX3_figures_0 {Q : Option AV → MS → Prop} (b : AH) (s : MS) (x1 : Int) (f11 : Int → Int) (K : HX3_figures_11 Q b s x1 (i32 ((s.2 6 1) - 1)) f11) : HX3_figures_0 Q b s x1 f11 := by
  refine JW.iload_n dX3_figures_0 rfl ?_
  refine JW.istore_n (ls' := [(0, vR 351), (1, vI x1), (2, vI x1)]) dX3_figures_1 (Nat.le_of_ble_eq_true rfl) rfl ?_
  refine JW.aload_n dX3_figures_2 rfl ?_
  refine JW.mget (v := vR 358) dX3_figures_3 fX3_34 rfl ?_
  refine JW.iconst dX3_figures_6 rfl ?_
  refine JW.mald 6 (x := (s.2 6 1)) dX3_figures_7 (Nat.le_of_ble_eq_true rfl) rfl (by decide) (by decide) rfl ?_
  refine JW.iconst dX3_figures_8 rfl ?_
  refine JW.isub dX3_figures_9 ?_
  refine JW.istore_n (ls' := [(0, vR 351), (1, vI x1), (2, vI x1), (3, vI (i32 ((s.2 6 1) - 1)))]) dX3_figures_10 (Nat.le_of_ble_eq_true rfl) rfl ?_
  exact JW.pick [0, 2, 3] rfl K
theorem bX3_figures_11 {Q : Option AV → MS → Prop} (b : AH) (s : MS) (x2 : Int) (x3 : Int) (f11 : Int → Int) (K : (x3 < 0 → Q none (sA s 11 f11)) ∧ (¬ x3 < 0 → (s.2 6 0) ≠ 0 ∧ ((0 ≤ x3 ∧ x3 < 8) ∧ (HX3_figures_11 Q b s (i32 (Int.tdiv x2 (s.2 6 0))) (i32 (x3 + (-1))) (upI f11 x3 (i32 (Int.tmod x2 (s.2 6 0)))))))) : HX3_figures_11 Q b s x2 x3 f11 := by
  refine JW.iload_n dX3_figures_11 rfl ?_
  refine JW.if_lt (tgt := 44) dX3_figures_12 rfl (fun c_1 => ?_) (fun c_1 => ?_)
  · have K := K.1 c_1
    exact JW.vreturn dX3_figures_44 rfl ⟨_, rfl, K⟩
  · have K := K.2 c_1
    refine JW.aload_n dX3_figures_15 rfl ?_
    refine JW.mget (v := vR 363) dX3_figures_16 fX3_50 rfl ?_
    refine JW.iload_n dX3_figures_19 rfl ?_
    refine JW.iload_n dX3_figures_20 rfl ?_
    refine JW.aload_n dX3_figures_21 rfl ?_
    refine JW.mget (v := vR 358) dX3_figures_22 fX3_34 rfl ?_
    refine JW.iconst dX3_figures_25 rfl ?_
    refine JW.mald 6 (x := (s.2 6 0)) dX3_figures_26 (Nat.le_of_ble_eq_true rfl) rfl (by decide) (by decide) rfl ?_
    obtain ⟨o_2, K⟩ := K
    refine JW.irem dX3_figures_27 o_2 ?_
    obtain ⟨o_3, K⟩ := K
    refine JW.mast 11 (f := f11) dX3_figures_28 (Nat.le_of_ble_eq_true rfl) rfl o_3.1 o_3.2 rfl ?_
    refine JW.steq (s2 := sA s 11 (upI f11 x3 (i32 (Int.tmod x2 (s.2 6 0))))) (by simp only [sA_A, sS_S, sA_S, sA_lt, sS_lt, Nat.reduceLT, id_eq] <;> rfl) ?_
    refine JW.iload_n dX3_figures_29 rfl ?_
    refine JW.aload_n dX3_figures_30 rfl ?_
    refine JW.mget (v := vR 358) dX3_figures_31 fX3_34 rfl ?_
    refine JW.iconst dX3_figures_34 rfl ?_
    refine JW.mald 6 (x := (s.2 6 0)) dX3_figures_35 (Nat.le_of_ble_eq_true rfl) rfl (by decide) (by decide) rfl ?_
    refine JW.idiv dX3_figures_36 o_2 ?_
    refine JW.istore_n (ls' := [(0, vR 351), (2, vI (i32 (Int.tdiv x2 (s.2 6 0)))), (3, vI x3)]) dX3_figures_37 (Nat.le_of_ble_eq_true rfl) rfl ?_
    refine JW.iinc (ls' := [(0, vR 351), (2, vI (i32 (Int.tdiv x2 (s.2 6 0)))), (3, vI (i32 (x3 + (-1))))]) dX3_figures_38 (Nat.le_of_ble_eq_true rfl) rfl rfl ?_
    refine JW.goto (tgt := 11) dX3_figures_41 rfl ?_
    exact JW.pick [0, 2, 3] rfl K
def QX3_figures (s : MS) (a1 : Int) : Option AV → MS → Prop := fun v s' => v = none ∧ s' = sA s 11 (figs ((s.2 6) 0) ((s.2 6) 1) a1 (s.2 11))
theorem vX3_figures_1 (s : MS) (a1 : Int) (hp : tOK (s.2 6) ∧ 0 ≤ a1 ∧ a1 ≤ 100000) (x2 : Int) (x3 : Int) (f11 : Int → Int) (hI : (-1 ≤ x3 ∧ x3 < s.2 6 1) ∧ x2 = a1 / s.2 6 0 ^ (s.2 6 1 - 1 - x3).toNat ∧ f11 = (fun z => if x3 < z ∧ z < s.2 6 1 then dig (s.2 6 0) (s.2 6 1) a1 z else s.2 11 z)) (c_1 : x3 < 0) : f11 = (figs ((s.2 6) 0) ((s.2 6) 1) a1 (s.2 11)) := by
  obtain ⟨ht, h0, h1⟩ := hp
  have hL := tOK_L ht
  have hB := tOK_B ht
  have hN := tOK_N ht
  (try unfold lex3)
  (try simp only [bI_0, bI_n, Classical.not_not] at *)
  (try simp (disch := omega) only [i32_id] at *)
  first | done | omega | ((repeat' (with_reducible apply And.intro)) <;> first | assumption | rfl | omega | grind [upI, figs])
theorem vX3_figures_2 (s : MS) (a1 : Int) (hp : tOK (s.2 6) ∧ 0 ≤ a1 ∧ a1 ≤ 100000) (x2 : Int) (x3 : Int) (f11 : Int → Int) (hI : (-1 ≤ x3 ∧ x3 < s.2 6 1) ∧ x2 = a1 / s.2 6 0 ^ (s.2 6 1 - 1 - x3).toNat ∧ f11 = (fun z => if x3 < z ∧ z < s.2 6 1 then dig (s.2 6 0) (s.2 6 1) a1 z else s.2 11 z)) (c_1 : ¬ x3 < 0) : (s.2 6 0) ≠ 0 := by
  obtain ⟨ht, h0, h1⟩ := hp
  have hL := tOK_L ht
  have hB := tOK_B ht
  have hN := tOK_N ht
  have := tOK_B2 ht (by omega)
  omega
theorem vX3_figures_3 (s : MS) (a1 : Int) (hp : tOK (s.2 6) ∧ 0 ≤ a1 ∧ a1 ≤ 100000) (x2 : Int) (x3 : Int) (f11 : Int → Int) (hI : (-1 ≤ x3 ∧ x3 < s.2 6 1) ∧ x2 = a1 / s.2 6 0 ^ (s.2 6 1 - 1 - x3).toNat ∧ f11 = (fun z => if x3 < z ∧ z < s.2 6 1 then dig (s.2 6 0) (s.2 6 1) a1 z else s.2 11 z)) (c_1 : ¬ x3 < 0) (o_2 : (s.2 6 0) ≠ 0) : (0 ≤ x3 ∧ x3 < 8) := by
  obtain ⟨ht, h0, h1⟩ := hp
  have hL := tOK_L ht
  have hB := tOK_B ht
  have hN := tOK_N ht
  (try unfold lex3)
  (try simp only [bI_0, bI_n, Classical.not_not] at *)
  (try simp (disch := omega) only [i32_id] at *)
  first | done | omega | ((repeat' (with_reducible apply And.intro)) <;> first | assumption | rfl | omega | grind [upI, figs])
theorem vX3_figures_4 (s : MS) (a1 : Int) (hp : tOK (s.2 6) ∧ 0 ≤ a1 ∧ a1 ≤ 100000) (x2 : Int) (x3 : Int) (f11 : Int → Int) (hI : (-1 ≤ x3 ∧ x3 < s.2 6 1) ∧ x2 = a1 / s.2 6 0 ^ (s.2 6 1 - 1 - x3).toNat ∧ f11 = (fun z => if x3 < z ∧ z < s.2 6 1 then dig (s.2 6 0) (s.2 6 1) a1 z else s.2 11 z)) (c_1 : ¬ x3 < 0) (o_2 : (s.2 6 0) ≠ 0) (o_3 : (0 ≤ x3 ∧ x3 < 8)) : (-1 ≤ (i32 (x3 + (-1))) ∧ (i32 (x3 + (-1))) < s.2 6 1) ∧ (i32 (Int.tdiv x2 (s.2 6 0))) = a1 / s.2 6 0 ^ (s.2 6 1 - 1 - (i32 (x3 + (-1)))).toNat ∧ (upI f11 x3 (i32 (Int.tmod x2 (s.2 6 0)))) = (fun z => if (i32 (x3 + (-1))) < z ∧ z < s.2 6 1 then dig (s.2 6 0) (s.2 6 1) a1 z else s.2 11 z) := by
  obtain ⟨ht, h0, h1⟩ := hp
  have hL := tOK_L ht
  have hB := tOK_B ht
  have hN := tOK_N ht
  obtain ⟨⟨i0, i1⟩, rfl, rfl⟩ := hI
  have hB2 := tOK_B2 ht (by omega)
  have hd0 : 0 ≤ a1 / s.2 6 0 ^ (s.2 6 1 - 1 - x3).toNat := Int.ediv_nonneg h0 (by have := pow_pos' (B := s.2 6 0) (by omega) (s.2 6 1 - 1 - x3).toNat; omega)
  have hd1 : a1 / s.2 6 0 ^ (s.2 6 1 - 1 - x3).toNat ≤ a1 := Int.ediv_le_self _ h0
  have hm0 := Int.emod_nonneg (a1 / s.2 6 0 ^ (s.2 6 1 - 1 - x3).toNat) (b := s.2 6 0) (by omega)
  have hm1 := Int.emod_lt_of_pos (a1 / s.2 6 0 ^ (s.2 6 1 - 1 - x3).toNat) (b := s.2 6 0) (by omega)
  have hq0 : 0 ≤ a1 / s.2 6 0 ^ (s.2 6 1 - 1 - x3).toNat / s.2 6 0 := Int.ediv_nonneg hd0 (by omega)
  have hq1 : a1 / s.2 6 0 ^ (s.2 6 1 - 1 - x3).toNat / s.2 6 0 ≤ a1 / s.2 6 0 ^ (s.2 6 1 - 1 - x3).toNat := Int.ediv_le_self _ hd0
  rw [i32_id (x := x3 + -1) (by omega) (by omega), tdiv_n hd0, tmod_n hd0, i32_s hq0 (by omega), i32_s hm0 (by omega)]
  refine ⟨by omega, ?_, ?_⟩
  · rw [show (s.2 6 1 - 1 - (x3 + -1)).toNat = (s.2 6 1 - 1 - x3).toNat + 1 by omega, Int.pow_succ, Int.ediv_ediv_of_nonneg (by have := pow_pos' (B := s.2 6 0) (by omega) (s.2 6 1 - 1 - x3).toNat; omega)]
  · show upI _ x3 (dig (s.2 6 0) (s.2 6 1) a1 x3) = _
    grind [upI]
theorem vX3_figures_5 (s : MS) (a1 : Int) (hp : tOK (s.2 6) ∧ 0 ≤ a1 ∧ a1 ≤ 100000) (x2 : Int) (x3 : Int) (f11 : Int → Int) (hI : (-1 ≤ x3 ∧ x3 < s.2 6 1) ∧ x2 = a1 / s.2 6 0 ^ (s.2 6 1 - 1 - x3).toNat ∧ f11 = (fun z => if x3 < z ∧ z < s.2 6 1 then dig (s.2 6 0) (s.2 6 1) a1 z else s.2 11 z)) (c_1 : ¬ x3 < 0) (o_2 : (s.2 6 0) ≠ 0) (o_3 : (0 ≤ x3 ∧ x3 < 8)) : lex3 0 0 (((i32 (x3 + (-1))) + 1).toNat) 0 0 ((x3 + 1).toNat) := by
  obtain ⟨ht, h0, h1⟩ := hp
  have hL := tOK_L ht
  have hB := tOK_B ht
  have hN := tOK_N ht
  (try unfold lex3)
  (try simp only [bI_0, bI_n, Classical.not_not] at *)
  (try simp (disch := omega) only [i32_id] at *)
  first | done | omega | ((repeat' (with_reducible apply And.intro)) <;> first | assumption | rfl | omega | grind [upI, figs])
theorem vX3_figures_6 (s : MS) (a1 : Int) (hp : tOK (s.2 6) ∧ 0 ≤ a1 ∧ a1 ≤ 100000) : (-1 ≤ (i32 ((s.2 6 1) - 1)) ∧ (i32 ((s.2 6 1) - 1)) < s.2 6 1) ∧ a1 = a1 / s.2 6 0 ^ (s.2 6 1 - 1 - (i32 ((s.2 6 1) - 1))).toNat ∧ (s.2 11) = (fun z => if (i32 ((s.2 6 1) - 1)) < z ∧ z < s.2 6 1 then dig (s.2 6 0) (s.2 6 1) a1 z else s.2 11 z) := by
  obtain ⟨ht, h0, h1⟩ := hp
  have hL := tOK_L ht
  have hB := tOK_B ht
  have hN := tOK_N ht
  rw [i32_id (by omega) (by omega)]
  refine ⟨by omega, ?_, ?_⟩
  · rw [show (s.2 6 1 - 1 - (s.2 6 1 - 1)).toNat = 0 by omega, Int.pow_zero, Int.ediv_one]
  · grind
theorem allX3_figures (b : AH) (s : MS) (a1 : Int) (hp : tOK (s.2 6) ∧ 0 ≤ a1 ∧ a1 ≤ 100000) : ∀ m1 m2 m3 : Nat, (∀ (x2 : Int) (x3 : Int) (f11 : Int → Int), m1 = 0 → m2 = 0 → m3 = ((x3 + 1).toNat) → ((-1 ≤ x3 ∧ x3 < s.2 6 1) ∧ x2 = a1 / s.2 6 0 ^ (s.2 6 1 - 1 - x3).toNat ∧ f11 = (fun z => if x3 < z ∧ z < s.2 6 1 then dig (s.2 6 0) (s.2 6 1) a1 z else s.2 11 z)) → HX3_figures_11 (QX3_figures s a1) b s x2 x3 f11) := by
  refine lex3_ind ?_
  intro m1 m2 m3 ih
  rintro x2 x3 f11 rfl rfl rfl hI
  refine bX3_figures_11 b s x2 x3 f11 ?_
  refine ⟨fun c_1 => ?_, fun c_1 => ?_⟩
  · exact ⟨rfl, (sA_c rfl (vX3_figures_1 s a1 hp x2 x3 f11 hI c_1))⟩
  · have o_2 : (s.2 6 0) ≠ 0 := (vX3_figures_2 s a1 hp x2 x3 f11 hI c_1)
    refine ⟨o_2, ?_⟩
    have o_3 : (0 ≤ x3 ∧ x3 < 8) := (vX3_figures_3 s a1 hp x2 x3 f11 hI c_1 o_2)
    refine ⟨o_3, ?_⟩
    exact (ih _ _ _ (vX3_figures_5 s a1 hp x2 x3 f11 hI c_1 o_2 o_3)) (i32 (Int.tdiv x2 (s.2 6 0))) (i32 (x3 + (-1))) (upI f11 x3 (i32 (Int.tmod x2 (s.2 6 0)))) rfl rfl rfl (vX3_figures_4 s a1 hp x2 x3 f11 hI c_1 o_2 o_3)
theorem ctX3_figures (b : AH) (s : MS) (a1 : Int) (hp : tOK (s.2 6) ∧ 0 ≤ a1 ∧ a1 ≤ 100000) : MC mX3_figures 1 b s [vI a1] (QX3_figures s a1) := by
  refine MC.of (by decide) rfl (Nat.le_of_ble_eq_true rfl) (JW.steq (s2 := sA s 11 (s.2 11)) (by simp only [sA_id, sS_id]) ?_)
  refine bX3_figures_0 b s a1 (s.2 11) ?_
  exact (allX3_figures b s a1 hp _ _ _) a1 (i32 ((s.2 6 1) - 1)) (s.2 11) rfl rfl rfl (vX3_figures_6 s a1 hp)
def HX3_sorts_0 (Q : Option AV → MS → Prop) (b : AH) (s : MS) (x1 : Int) (f11 : Int → Int) (f12 : Int → Int) : Prop := MW mX3_sorts 2 Q b 0 [(0, vR 351), (1, vI x1)] [] (sA (sA s 11 f11) 12 f12)
def HX3_sorts_9 (Q : Option AV → MS → Prop) (b : AH) (s : MS) (x2 : Int) (x3 : Int) (f11 : Int → Int) (f12 : Int → Int) : Prop := MW mX3_sorts 2 Q b 9 [(0, vR 351), (2, vI x2), (3, vI x3)] [] (sA (sA s 11 f11) 12 f12)
def HX3_sorts_22 (Q : Option AV → MS → Prop) (b : AH) (s : MS) (x2 : Int) (x3 : Int) (x4 : Int) (f11 : Int → Int) (f12 : Int → Int) : Prop := MW mX3_sorts 2 Q b 22 [(0, vR 351), (2, vI x2), (3, vI x3), (4, vI x4)] [] (sA (sA s 11 f11) 12 f12)
theorem bX3_sorts_0 {Q : Option AV → MS → Prop} (b : AH) (s : MS) (x1 : Int) (f11 : Int → Int) (f12 : Int → Int) (K : (tOK (s.2 6) ∧ 0 ≤ x1 ∧ x1 ≤ 100000) ∧ (HX3_sorts_9 Q b s 0 0 (figs ((s.2 6) 0) ((s.2 6) 1) x1 f11) f12)) : HX3_sorts_0 Q b s x1 f11 f12 := by
  refine JW.aload_n dX3_sorts_0 rfl ?_
  refine JW.iload_n dX3_sorts_1 rfl ?_
  obtain ⟨o_1, K⟩ := K
  refine JW.mcall (As := [vI x1]) dX3_sorts_2 vX3_figures rfl q1810 (ctX3_figures b (sA (sA s 11 f11) 12 f12) x1 o_1) (Nat.le_of_ble_eq_true rfl) rfl (Nat.le_of_ble_eq_true rfl) ?_
  rintro _ _ ⟨rfl, rfl⟩
  refine JW.steq (s2 := sA (sA s 11 (figs ((s.2 6) 0) ((s.2 6) 1) x1 f11)) 12 f12) (by simp only [sA_A, sS_S, sA_S, sA_lt, sS_lt, Nat.reduceLT, id_eq] <;> rfl) ?_
  refine JW.iconst dX3_sorts_5 rfl ?_
  refine JW.istore_n (ls' := [(0, vR 351), (1, vI x1), (2, vI 0)]) dX3_sorts_6 (Nat.le_of_ble_eq_true rfl) rfl ?_
  refine JW.iconst dX3_sorts_7 rfl ?_
  refine JW.istore_n (ls' := [(0, vR 351), (1, vI x1), (2, vI 0), (3, vI 0)]) dX3_sorts_8 (Nat.le_of_ble_eq_true rfl) rfl ?_
  exact JW.pick [0, 2, 3] rfl K
theorem bX3_sorts_9 {Q : Option AV → MS → Prop} (b : AH) (s : MS) (x2 : Int) (x3 : Int) (f11 : Int → Int) (f12 : Int → Int) (K : ((s.2 6 0) ≤ x3 → Q none (sA (sA s 11 f11) 12 f12)) ∧ (¬ (s.2 6 0) ≤ x3 → HX3_sorts_22 Q b s x2 x3 0 f11 f12)) : HX3_sorts_9 Q b s x2 x3 f11 f12 := by
  refine JW.iload_n dX3_sorts_9 rfl ?_
  refine JW.aload_n dX3_sorts_10 rfl ?_
  refine JW.mget (v := vR 358) dX3_sorts_11 fX3_34 rfl ?_
  refine JW.iconst dX3_sorts_14 rfl ?_
  refine JW.mald 6 (x := (s.2 6 0)) dX3_sorts_15 (Nat.le_of_ble_eq_true rfl) rfl (by decide) (by decide) rfl ?_
  refine JW.icmp_ge (tgt := 69) dX3_sorts_16 rfl (fun c_1 => ?_) (fun c_1 => ?_)
  · have K := K.1 c_1
    exact JW.vreturn dX3_sorts_69 rfl ⟨_, rfl, K⟩
  · have K := K.2 c_1
    refine JW.iconst dX3_sorts_19 rfl ?_
    refine JW.istore (ls' := [(0, vR 351), (2, vI x2), (3, vI x3), (4, vI 0)]) dX3_sorts_20 (Nat.le_of_ble_eq_true rfl) rfl ?_
    exact JW.pick [0, 2, 3, 4] rfl K
theorem bX3_sorts_22 {Q : Option AV → MS → Prop} (b : AH) (s : MS) (x2 : Int) (x3 : Int) (x4 : Int) (f11 : Int → Int) (f12 : Int → Int) (K : ((s.2 6 1) ≤ x4 → HX3_sorts_9 Q b s x2 (i32 (x3 + 1)) f11 f12) ∧ (¬ (s.2 6 1) ≤ x4 → (0 ≤ x4 ∧ x4 < 8) ∧ (((f11 x4) = x3 → (0 ≤ x2 ∧ x2 < 8) ∧ (HX3_sorts_22 Q b s (i32 (x2 + 1)) x3 (i32 (x4 + 1)) f11 (upI f12 x2 x3))) ∧ (¬ (f11 x4) = x3 → HX3_sorts_22 Q b s x2 x3 (i32 (x4 + 1)) f11 f12)))) : HX3_sorts_22 Q b s x2 x3 x4 f11 f12 := by
  refine JW.iload dX3_sorts_22 rfl ?_
  refine JW.aload_n dX3_sorts_24 rfl ?_
  refine JW.mget (v := vR 358) dX3_sorts_25 fX3_34 rfl ?_
  refine JW.iconst dX3_sorts_28 rfl ?_
  refine JW.mald 6 (x := (s.2 6 1)) dX3_sorts_29 (Nat.le_of_ble_eq_true rfl) rfl (by decide) (by decide) rfl ?_
  refine JW.icmp_ge (tgt := 63) dX3_sorts_30 rfl (fun c_1 => ?_) (fun c_1 => ?_)
  · have K := K.1 c_1
    refine JW.iinc (ls' := [(0, vR 351), (2, vI x2), (3, vI (i32 (x3 + 1))), (4, vI x4)]) dX3_sorts_63 (Nat.le_of_ble_eq_true rfl) rfl rfl ?_
    refine JW.goto (tgt := 9) dX3_sorts_66 rfl ?_
    exact JW.pick [0, 2, 3] rfl K
  · have K := K.2 c_1
    refine JW.aload_n dX3_sorts_33 rfl ?_
    refine JW.mget (v := vR 363) dX3_sorts_34 fX3_50 rfl ?_
    refine JW.iload dX3_sorts_37 rfl ?_
    obtain ⟨o_2, K⟩ := K
    refine JW.mald 11 (x := (f11 x4)) dX3_sorts_39 (Nat.le_of_ble_eq_true rfl) rfl o_2.1 o_2.2 rfl ?_
    refine JW.iload_n dX3_sorts_40 rfl ?_
    refine JW.icmp_eq (tgt := 47) dX3_sorts_41 rfl (fun c_3 => ?_) (fun c_3 => ?_)
    · have K := K.1 c_3
      refine JW.aload_n dX3_sorts_47 rfl ?_
      refine JW.mget (v := vR 364) dX3_sorts_48 fX3_53 rfl ?_
      refine JW.iload_n dX3_sorts_51 rfl ?_
      refine JW.iload_n dX3_sorts_52 rfl ?_
      obtain ⟨o_4, K⟩ := K
      refine JW.mast 12 (f := f12) dX3_sorts_53 (Nat.le_of_ble_eq_true rfl) rfl o_4.1 o_4.2 rfl ?_
      refine JW.steq (s2 := sA (sA s 11 f11) 12 (upI f12 x2 x3)) (by simp only [sA_A, sS_S, sA_S, sA_lt, sS_lt, Nat.reduceLT, id_eq] <;> rfl) ?_
      refine JW.iinc (ls' := [(0, vR 351), (2, vI (i32 (x2 + 1))), (3, vI x3), (4, vI x4)]) dX3_sorts_54 (Nat.le_of_ble_eq_true rfl) rfl rfl ?_
      refine JW.iinc (ls' := [(0, vR 351), (2, vI (i32 (x2 + 1))), (3, vI x3), (4, vI (i32 (x4 + 1)))]) dX3_sorts_57 (Nat.le_of_ble_eq_true rfl) rfl rfl ?_
      refine JW.goto (tgt := 22) dX3_sorts_60 rfl ?_
      exact JW.pick [0, 2, 3, 4] rfl K
    · have K := K.2 c_3
      refine JW.goto (tgt := 57) dX3_sorts_44 rfl ?_
      refine JW.iinc (ls' := [(0, vR 351), (2, vI x2), (3, vI x3), (4, vI (i32 (x4 + 1)))]) dX3_sorts_57 (Nat.le_of_ble_eq_true rfl) rfl rfl ?_
      refine JW.goto (tgt := 22) dX3_sorts_60 rfl ?_
      exact JW.pick [0, 2, 3, 4] rfl K
def QX3_sorts (s : MS) (a1 : Int) : Option AV → MS → Prop := fun v s' => ∃ (f12 : Int → Int), v = none ∧ s' = sA (sA s 11 (figs ((s.2 6) 0) ((s.2 6) 1) a1 (s.2 11))) 12 f12 ∧ (ascOf (dig ((s.2 6) 0) ((s.2 6) 1) a1) f12 ((s.2 6) 1))
theorem vX3_sorts_1 (s : MS) (a1 : Int) (hp : tOK (s.2 6) ∧ 0 ≤ a1 ∧ a1 ≤ 100000) (x2 : Int) (x3 : Int) (f11 : Int → Int) (f12 : Int → Int) (hI : f11 = figs (s.2 6 0) (s.2 6 1) a1 (s.2 11) ∧ (0 ≤ x3 ∧ x3 ≤ s.2 6 0) ∧ SO (dig (s.2 6 0) (s.2 6 1) a1) (s.2 6 1) f12 x2 x3 0) (c_1 : (s.2 6 0) ≤ x3) : f11 = (figs ((s.2 6) 0) ((s.2 6) 1) a1 (s.2 11)) := by
  obtain ⟨ht, h0, h1⟩ := hp
  have hL := tOK_L ht
  have hB := tOK_B ht
  have hN := tOK_N ht
  have hD := dig_in' (x := a1) ht
  (try unfold lex3)
  (try simp only [bI_0, bI_n, Classical.not_not] at *)
  (try simp (disch := omega) only [i32_id] at *)
  first | done | omega | ((repeat' (with_reducible apply And.intro)) <;> first | assumption | rfl | omega | grind [upI])
theorem vX3_sorts_2 (s : MS) (a1 : Int) (hp : tOK (s.2 6) ∧ 0 ≤ a1 ∧ a1 ≤ 100000) (x2 : Int) (x3 : Int) (f11 : Int → Int) (f12 : Int → Int) (hI : f11 = figs (s.2 6 0) (s.2 6 1) a1 (s.2 11) ∧ (0 ≤ x3 ∧ x3 ≤ s.2 6 0) ∧ SO (dig (s.2 6 0) (s.2 6 1) a1) (s.2 6 1) f12 x2 x3 0) (c_1 : (s.2 6 0) ≤ x3) : ascOf (dig ((s.2 6) 0) ((s.2 6) 1) a1) f12 ((s.2 6) 1) := by
  obtain ⟨ht, h0, h1⟩ := hp
  have hL := tOK_L ht
  have hB := tOK_B ht
  have hN := tOK_N ht
  have hD := dig_in' (x := a1) ht
  exact SO_end hI.2.2 (fun i a b => by have := hD i a b; omega)
theorem vX3_sorts_3 (s : MS) (a1 : Int) (hp : tOK (s.2 6) ∧ 0 ≤ a1 ∧ a1 ≤ 100000) (x2 : Int) (x3 : Int) (f11 : Int → Int) (f12 : Int → Int) (hI : f11 = figs (s.2 6 0) (s.2 6 1) a1 (s.2 11) ∧ (0 ≤ x3 ∧ x3 ≤ s.2 6 0) ∧ SO (dig (s.2 6 0) (s.2 6 1) a1) (s.2 6 1) f12 x2 x3 0) (c_1 : ¬ (s.2 6 0) ≤ x3) : f11 = figs (s.2 6 0) (s.2 6 1) a1 (s.2 11) ∧ (0 ≤ x3 ∧ x3 < s.2 6 0) ∧ (0 ≤ (0 : Int) ∧ (0 : Int) ≤ s.2 6 1) ∧ SO (dig (s.2 6 0) (s.2 6 1) a1) (s.2 6 1) f12 x2 x3 (0 : Int) := by
  obtain ⟨ht, h0, h1⟩ := hp
  have hL := tOK_L ht
  have hB := tOK_B ht
  have hN := tOK_N ht
  have hD := dig_in' (x := a1) ht
  (try unfold lex3)
  (try simp only [bI_0, bI_n, Classical.not_not] at *)
  (try simp (disch := omega) only [i32_id] at *)
  first | done | omega | ((repeat' (with_reducible apply And.intro)) <;> first | assumption | rfl | omega | grind [upI])
theorem vX3_sorts_4 (s : MS) (a1 : Int) (hp : tOK (s.2 6) ∧ 0 ≤ a1 ∧ a1 ≤ 100000) (x2 : Int) (x3 : Int) (f11 : Int → Int) (f12 : Int → Int) (hI : f11 = figs (s.2 6 0) (s.2 6 1) a1 (s.2 11) ∧ (0 ≤ x3 ∧ x3 ≤ s.2 6 0) ∧ SO (dig (s.2 6 0) (s.2 6 1) a1) (s.2 6 1) f12 x2 x3 0) (c_1 : ¬ (s.2 6 0) ≤ x3) : lex3 0 ((s.2 6 0 - x3).toNat - 1) ((s.2 6 1 - (0 : Int)).toNat + 1) 0 ((s.2 6 0 - x3).toNat) 0 := by
  obtain ⟨ht, h0, h1⟩ := hp
  have hL := tOK_L ht
  have hB := tOK_B ht
  have hN := tOK_N ht
  have hD := dig_in' (x := a1) ht
  (try unfold lex3)
  (try simp only [bI_0, bI_n, Classical.not_not] at *)
  (try simp (disch := omega) only [i32_id] at *)
  first | done | omega | ((repeat' (with_reducible apply And.intro)) <;> first | assumption | rfl | omega | grind [upI])
theorem vX3_sorts_5 (s : MS) (a1 : Int) (hp : tOK (s.2 6) ∧ 0 ≤ a1 ∧ a1 ≤ 100000) (x2 : Int) (x3 : Int) (x4 : Int) (f11 : Int → Int) (f12 : Int → Int) (hI : f11 = figs (s.2 6 0) (s.2 6 1) a1 (s.2 11) ∧ (0 ≤ x3 ∧ x3 < s.2 6 0) ∧ (0 ≤ x4 ∧ x4 ≤ s.2 6 1) ∧ SO (dig (s.2 6 0) (s.2 6 1) a1) (s.2 6 1) f12 x2 x3 x4) (c_1 : (s.2 6 1) ≤ x4) : f11 = figs (s.2 6 0) (s.2 6 1) a1 (s.2 11) ∧ (0 ≤ (i32 (x3 + 1)) ∧ (i32 (x3 + 1)) ≤ s.2 6 0) ∧ SO (dig (s.2 6 0) (s.2 6 1) a1) (s.2 6 1) f12 x2 (i32 (x3 + 1)) 0 := by
  obtain ⟨ht, h0, h1⟩ := hp
  have hL := tOK_L ht
  have hB := tOK_B ht
  have hN := tOK_N ht
  have hD := dig_in' (x := a1) ht
  rw [i32_id (by omega) (by omega)]
  refine ⟨hI.1, by omega, ?_⟩
  rw [show x4 = s.2 6 1 by omega] at hI
  exact SO_row hI.2.2.2
theorem vX3_sorts_6 (s : MS) (a1 : Int) (hp : tOK (s.2 6) ∧ 0 ≤ a1 ∧ a1 ≤ 100000) (x2 : Int) (x3 : Int) (x4 : Int) (f11 : Int → Int) (f12 : Int → Int) (hI : f11 = figs (s.2 6 0) (s.2 6 1) a1 (s.2 11) ∧ (0 ≤ x3 ∧ x3 < s.2 6 0) ∧ (0 ≤ x4 ∧ x4 ≤ s.2 6 1) ∧ SO (dig (s.2 6 0) (s.2 6 1) a1) (s.2 6 1) f12 x2 x3 x4) (c_1 : (s.2 6 1) ≤ x4) : lex3 0 ((s.2 6 0 - (i32 (x3 + 1))).toNat) 0 0 ((s.2 6 0 - x3).toNat - 1) ((s.2 6 1 - x4).toNat + 1) := by
  obtain ⟨ht, h0, h1⟩ := hp
  have hL := tOK_L ht
  have hB := tOK_B ht
  have hN := tOK_N ht
  have hD := dig_in' (x := a1) ht
  (try unfold lex3)
  (try simp only [bI_0, bI_n, Classical.not_not] at *)
  (try simp (disch := omega) only [i32_id] at *)
  first | done | omega | ((repeat' (with_reducible apply And.intro)) <;> first | assumption | rfl | omega | grind [upI])
theorem vX3_sorts_7 (s : MS) (a1 : Int) (hp : tOK (s.2 6) ∧ 0 ≤ a1 ∧ a1 ≤ 100000) (x2 : Int) (x3 : Int) (x4 : Int) (f11 : Int → Int) (f12 : Int → Int) (hI : f11 = figs (s.2 6 0) (s.2 6 1) a1 (s.2 11) ∧ (0 ≤ x3 ∧ x3 < s.2 6 0) ∧ (0 ≤ x4 ∧ x4 ≤ s.2 6 1) ∧ SO (dig (s.2 6 0) (s.2 6 1) a1) (s.2 6 1) f12 x2 x3 x4) (c_1 : ¬ (s.2 6 1) ≤ x4) : (0 ≤ x4 ∧ x4 < 8) := by
  obtain ⟨ht, h0, h1⟩ := hp
  have hL := tOK_L ht
  have hB := tOK_B ht
  have hN := tOK_N ht
  have hD := dig_in' (x := a1) ht
  (try unfold lex3)
  (try simp only [bI_0, bI_n, Classical.not_not] at *)
  (try simp (disch := omega) only [i32_id] at *)
  first | done | omega | ((repeat' (with_reducible apply And.intro)) <;> first | assumption | rfl | omega | grind [upI])
theorem vX3_sorts_8 (s : MS) (a1 : Int) (hp : tOK (s.2 6) ∧ 0 ≤ a1 ∧ a1 ≤ 100000) (x2 : Int) (x3 : Int) (x4 : Int) (f11 : Int → Int) (f12 : Int → Int) (hI : f11 = figs (s.2 6 0) (s.2 6 1) a1 (s.2 11) ∧ (0 ≤ x3 ∧ x3 < s.2 6 0) ∧ (0 ≤ x4 ∧ x4 ≤ s.2 6 1) ∧ SO (dig (s.2 6 0) (s.2 6 1) a1) (s.2 6 1) f12 x2 x3 x4) (c_1 : ¬ (s.2 6 1) ≤ x4) (o_2 : (0 ≤ x4 ∧ x4 < 8)) (c_3 : (f11 x4) = x3) : (0 ≤ x2 ∧ x2 < 8) := by
  obtain ⟨ht, h0, h1⟩ := hp
  have hL := tOK_L ht
  have hB := tOK_B ht
  have hN := tOK_N ht
  have hD := dig_in' (x := a1) ht
  rw [hI.1, figs_at (by omega) (by omega)] at c_3
  have := SO_lt hI.2.2.2 (by omega) c_3
  omega
theorem vX3_sorts_9 (s : MS) (a1 : Int) (hp : tOK (s.2 6) ∧ 0 ≤ a1 ∧ a1 ≤ 100000) (x2 : Int) (x3 : Int) (x4 : Int) (f11 : Int → Int) (f12 : Int → Int) (hI : f11 = figs (s.2 6 0) (s.2 6 1) a1 (s.2 11) ∧ (0 ≤ x3 ∧ x3 < s.2 6 0) ∧ (0 ≤ x4 ∧ x4 ≤ s.2 6 1) ∧ SO (dig (s.2 6 0) (s.2 6 1) a1) (s.2 6 1) f12 x2 x3 x4) (c_1 : ¬ (s.2 6 1) ≤ x4) (o_2 : (0 ≤ x4 ∧ x4 < 8)) (c_3 : (f11 x4) = x3) (o_4 : (0 ≤ x2 ∧ x2 < 8)) : f11 = figs (s.2 6 0) (s.2 6 1) a1 (s.2 11) ∧ (0 ≤ x3 ∧ x3 < s.2 6 0) ∧ (0 ≤ (i32 (x4 + 1)) ∧ (i32 (x4 + 1)) ≤ s.2 6 1) ∧ SO (dig (s.2 6 0) (s.2 6 1) a1) (s.2 6 1) (upI f12 x2 x3) (i32 (x2 + 1)) x3 (i32 (x4 + 1)) := by
  obtain ⟨ht, h0, h1⟩ := hp
  have hL := tOK_L ht
  have hB := tOK_B ht
  have hN := tOK_N ht
  have hD := dig_in' (x := a1) ht
  rw [hI.1, figs_at (by omega) (by omega)] at c_3
  rw [i32_id (by omega) (by omega), i32_id (by omega) (by omega)]
  exact ⟨hI.1, hI.2.1, by omega, SO_hit hI.2.2.2 (by omega) c_3⟩
theorem vX3_sorts_10 (s : MS) (a1 : Int) (hp : tOK (s.2 6) ∧ 0 ≤ a1 ∧ a1 ≤ 100000) (x2 : Int) (x3 : Int) (x4 : Int) (f11 : Int → Int) (f12 : Int → Int) (hI : f11 = figs (s.2 6 0) (s.2 6 1) a1 (s.2 11) ∧ (0 ≤ x3 ∧ x3 < s.2 6 0) ∧ (0 ≤ x4 ∧ x4 ≤ s.2 6 1) ∧ SO (dig (s.2 6 0) (s.2 6 1) a1) (s.2 6 1) f12 x2 x3 x4) (c_1 : ¬ (s.2 6 1) ≤ x4) (o_2 : (0 ≤ x4 ∧ x4 < 8)) (c_3 : (f11 x4) = x3) (o_4 : (0 ≤ x2 ∧ x2 < 8)) : lex3 0 ((s.2 6 0 - x3).toNat - 1) ((s.2 6 1 - (i32 (x4 + 1))).toNat + 1) 0 ((s.2 6 0 - x3).toNat - 1) ((s.2 6 1 - x4).toNat + 1) := by
  obtain ⟨ht, h0, h1⟩ := hp
  have hL := tOK_L ht
  have hB := tOK_B ht
  have hN := tOK_N ht
  have hD := dig_in' (x := a1) ht
  (try unfold lex3)
  (try simp only [bI_0, bI_n, Classical.not_not] at *)
  (try simp (disch := omega) only [i32_id] at *)
  first | done | omega | ((repeat' (with_reducible apply And.intro)) <;> first | assumption | rfl | omega | grind [upI])
theorem vX3_sorts_11 (s : MS) (a1 : Int) (hp : tOK (s.2 6) ∧ 0 ≤ a1 ∧ a1 ≤ 100000) (x2 : Int) (x3 : Int) (x4 : Int) (f11 : Int → Int) (f12 : Int → Int) (hI : f11 = figs (s.2 6 0) (s.2 6 1) a1 (s.2 11) ∧ (0 ≤ x3 ∧ x3 < s.2 6 0) ∧ (0 ≤ x4 ∧ x4 ≤ s.2 6 1) ∧ SO (dig (s.2 6 0) (s.2 6 1) a1) (s.2 6 1) f12 x2 x3 x4) (c_1 : ¬ (s.2 6 1) ≤ x4) (o_2 : (0 ≤ x4 ∧ x4 < 8)) (c_3 : ¬ (f11 x4) = x3) : f11 = figs (s.2 6 0) (s.2 6 1) a1 (s.2 11) ∧ (0 ≤ x3 ∧ x3 < s.2 6 0) ∧ (0 ≤ (i32 (x4 + 1)) ∧ (i32 (x4 + 1)) ≤ s.2 6 1) ∧ SO (dig (s.2 6 0) (s.2 6 1) a1) (s.2 6 1) f12 x2 x3 (i32 (x4 + 1)) := by
  obtain ⟨ht, h0, h1⟩ := hp
  have hL := tOK_L ht
  have hB := tOK_B ht
  have hN := tOK_N ht
  have hD := dig_in' (x := a1) ht
  rw [hI.1, figs_at (by omega) (by omega)] at c_3
  rw [i32_id (by omega) (by omega)]
  exact ⟨hI.1, hI.2.1, by omega, SO_skip hI.2.2.2 (by omega) c_3⟩
theorem vX3_sorts_12 (s : MS) (a1 : Int) (hp : tOK (s.2 6) ∧ 0 ≤ a1 ∧ a1 ≤ 100000) (x2 : Int) (x3 : Int) (x4 : Int) (f11 : Int → Int) (f12 : Int → Int) (hI : f11 = figs (s.2 6 0) (s.2 6 1) a1 (s.2 11) ∧ (0 ≤ x3 ∧ x3 < s.2 6 0) ∧ (0 ≤ x4 ∧ x4 ≤ s.2 6 1) ∧ SO (dig (s.2 6 0) (s.2 6 1) a1) (s.2 6 1) f12 x2 x3 x4) (c_1 : ¬ (s.2 6 1) ≤ x4) (o_2 : (0 ≤ x4 ∧ x4 < 8)) (c_3 : ¬ (f11 x4) = x3) : lex3 0 ((s.2 6 0 - x3).toNat - 1) ((s.2 6 1 - (i32 (x4 + 1))).toNat + 1) 0 ((s.2 6 0 - x3).toNat - 1) ((s.2 6 1 - x4).toNat + 1) := by
  obtain ⟨ht, h0, h1⟩ := hp
  have hL := tOK_L ht
  have hB := tOK_B ht
  have hN := tOK_N ht
  have hD := dig_in' (x := a1) ht
  (try unfold lex3)
  (try simp only [bI_0, bI_n, Classical.not_not] at *)
  (try simp (disch := omega) only [i32_id] at *)
  first | done | omega | ((repeat' (with_reducible apply And.intro)) <;> first | assumption | rfl | omega | grind [upI])
theorem vX3_sorts_13 (s : MS) (a1 : Int) (hp : tOK (s.2 6) ∧ 0 ≤ a1 ∧ a1 ≤ 100000) : (tOK (s.2 6) ∧ 0 ≤ a1 ∧ a1 ≤ 100000) := by
  obtain ⟨ht, h0, h1⟩ := hp
  have hL := tOK_L ht
  have hB := tOK_B ht
  have hN := tOK_N ht
  have hD := dig_in' (x := a1) ht
  (try unfold lex3)
  (try simp only [bI_0, bI_n, Classical.not_not] at *)
  (try simp (disch := omega) only [i32_id] at *)
  first | done | omega | ((repeat' (with_reducible apply And.intro)) <;> first | assumption | rfl | omega | grind [upI])
theorem vX3_sorts_14 (s : MS) (a1 : Int) (hp : tOK (s.2 6) ∧ 0 ≤ a1 ∧ a1 ≤ 100000) (o_1 : (tOK (s.2 6) ∧ 0 ≤ a1 ∧ a1 ≤ 100000)) : (figs ((s.2 6) 0) ((s.2 6) 1) a1 (s.2 11)) = figs (s.2 6 0) (s.2 6 1) a1 (s.2 11) ∧ (0 ≤ (0 : Int) ∧ (0 : Int) ≤ s.2 6 0) ∧ SO (dig (s.2 6 0) (s.2 6 1) a1) (s.2 6 1) (s.2 12) (0 : Int) (0 : Int) 0 := by
  obtain ⟨ht, h0, h1⟩ := hp
  have hL := tOK_L ht
  have hB := tOK_B ht
  have hN := tOK_N ht
  have hD := dig_in' (x := a1) ht
  exact ⟨rfl, by omega, SO_0 (by omega) (fun i a b => (hD i a b).1)⟩
theorem allX3_sorts (b : AH) (s : MS) (a1 : Int) (hp : tOK (s.2 6) ∧ 0 ≤ a1 ∧ a1 ≤ 100000) : ∀ m1 m2 m3 : Nat, (∀ (x2 : Int) (x3 : Int) (f11 : Int → Int) (f12 : Int → Int), m1 = 0 → m2 = ((s.2 6 0 - x3).toNat) → m3 = 0 → (f11 = figs (s.2 6 0) (s.2 6 1) a1 (s.2 11) ∧ (0 ≤ x3 ∧ x3 ≤ s.2 6 0) ∧ SO (dig (s.2 6 0) (s.2 6 1) a1) (s.2 6 1) f12 x2 x3 0) → HX3_sorts_9 (QX3_sorts s a1) b s x2 x3 f11 f12) ∧ (∀ (x2 : Int) (x3 : Int) (x4 : Int) (f11 : Int → Int) (f12 : Int → Int), m1 = 0 → m2 = ((s.2 6 0 - x3).toNat - 1) → m3 = ((s.2 6 1 - x4).toNat + 1) → (f11 = figs (s.2 6 0) (s.2 6 1) a1 (s.2 11) ∧ (0 ≤ x3 ∧ x3 < s.2 6 0) ∧ (0 ≤ x4 ∧ x4 ≤ s.2 6 1) ∧ SO (dig (s.2 6 0) (s.2 6 1) a1) (s.2 6 1) f12 x2 x3 x4) → HX3_sorts_22 (QX3_sorts s a1) b s x2 x3 x4 f11 f12) := by
  refine lex3_ind ?_
  intro m1 m2 m3 ih
  refine ⟨?_, ?_⟩
  · rintro x2 x3 f11 f12 rfl rfl rfl hI
    refine bX3_sorts_9 b s x2 x3 f11 f12 ?_
    refine ⟨fun c_1 => ?_, fun c_1 => ?_⟩
    · exact ⟨f12, rfl, (sA_c (sA_c rfl (vX3_sorts_1 s a1 hp x2 x3 f11 f12 hI c_1)) rfl), (vX3_sorts_2 s a1 hp x2 x3 f11 f12 hI c_1)⟩
    · exact (ih _ _ _ (vX3_sorts_4 s a1 hp x2 x3 f11 f12 hI c_1)).2 x2 x3 0 f11 f12 rfl rfl rfl (vX3_sorts_3 s a1 hp x2 x3 f11 f12 hI c_1)
  · rintro x2 x3 x4 f11 f12 rfl rfl rfl hI
    refine bX3_sorts_22 b s x2 x3 x4 f11 f12 ?_
    refine ⟨fun c_1 => ?_, fun c_1 => ?_⟩
    · exact (ih _ _ _ (vX3_sorts_6 s a1 hp x2 x3 x4 f11 f12 hI c_1)).1 x2 (i32 (x3 + 1)) f11 f12 rfl rfl rfl (vX3_sorts_5 s a1 hp x2 x3 x4 f11 f12 hI c_1)
    · have o_2 : (0 ≤ x4 ∧ x4 < 8) := (vX3_sorts_7 s a1 hp x2 x3 x4 f11 f12 hI c_1)
      refine ⟨o_2, ?_⟩
      refine ⟨fun c_3 => ?_, fun c_3 => ?_⟩
      · have o_4 : (0 ≤ x2 ∧ x2 < 8) := (vX3_sorts_8 s a1 hp x2 x3 x4 f11 f12 hI c_1 o_2 c_3)
        refine ⟨o_4, ?_⟩
        exact (ih _ _ _ (vX3_sorts_10 s a1 hp x2 x3 x4 f11 f12 hI c_1 o_2 c_3 o_4)).2 (i32 (x2 + 1)) x3 (i32 (x4 + 1)) f11 (upI f12 x2 x3) rfl rfl rfl (vX3_sorts_9 s a1 hp x2 x3 x4 f11 f12 hI c_1 o_2 c_3 o_4)
      · exact (ih _ _ _ (vX3_sorts_12 s a1 hp x2 x3 x4 f11 f12 hI c_1 o_2 c_3)).2 x2 x3 (i32 (x4 + 1)) f11 f12 rfl rfl rfl (vX3_sorts_11 s a1 hp x2 x3 x4 f11 f12 hI c_1 o_2 c_3)
theorem ctX3_sorts (b : AH) (s : MS) (a1 : Int) (hp : tOK (s.2 6) ∧ 0 ≤ a1 ∧ a1 ≤ 100000) : MC mX3_sorts 2 b s [vI a1] (QX3_sorts s a1) := by
  refine MC.of (by decide) rfl (Nat.le_of_ble_eq_true rfl) (JW.steq (s2 := sA (sA s 11 (s.2 11)) 12 (s.2 12)) (by simp only [sA_id, sS_id]) ?_)
  refine bX3_sorts_0 b s a1 (s.2 11) (s.2 12) ?_
  have o_1 : (tOK (s.2 6) ∧ 0 ≤ a1 ∧ a1 ≤ 100000) := (vX3_sorts_13 s a1 hp)
  refine ⟨o_1, ?_⟩
  exact (allX3_sorts b s a1 hp _ _ _).1 0 0 (figs ((s.2 6) 0) ((s.2 6) 1) a1 (s.2 11)) (s.2 12) rfl rfl rfl (vX3_sorts_14 s a1 hp o_1)
def HX3_up_0 (Q : Option AV → MS → Prop) (b : AH) (s : MS) (x1 : Int) (f11 : Int → Int) (f12 : Int → Int) : Prop := MW mX3_up 3 Q b 0 [(0, vR 351), (1, vI x1)] [] (sA (sA s 11 f11) 12 f12)
def HX3_up_9 (Q : Option AV → MS → Prop) (b : AH) (s : MS) (x2 : Int) (x3 : Int) (f11 : Int → Int) (f12 : Int → Int) : Prop := MW mX3_up 3 Q b 9 [(0, vR 351), (2, vI x2), (3, vI x3)] [] (sA (sA s 11 f11) 12 f12)
theorem bX3_up_0 {Q : Option AV → MS → Prop} (b : AH) (s : MS) (x1 : Int) (f11 : Int → Int) (f12 : Int → Int) (K : (tOK (s.2 6) ∧ 0 ≤ x1 ∧ x1 ≤ 100000) ∧ ((∀ (f_2 : Int → Int), (ascOf (dig ((s.2 6) 0) ((s.2 6) 1) x1) f_2 ((s.2 6) 1)) → HX3_up_9 Q b s 0 0 (figs ((s.2 6) 0) ((s.2 6) 1) x1 f11) f_2))) : HX3_up_0 Q b s x1 f11 f12 := by
  refine JW.aload_n dX3_up_0 rfl ?_
  refine JW.iload_n dX3_up_1 rfl ?_
  obtain ⟨o_1, K⟩ := K
  refine JW.mcall (As := [vI x1]) dX3_up_2 vX3_sorts rfl q1830 (ctX3_sorts b (sA (sA s 11 f11) 12 f12) x1 o_1) (Nat.le_of_ble_eq_true rfl) rfl (Nat.le_of_ble_eq_true rfl) ?_
  rintro _ _ ⟨f_2, rfl, rfl, q_3⟩
  refine JW.steq (s2 := sA (sA s 11 (figs ((s.2 6) 0) ((s.2 6) 1) x1 f11)) 12 f_2) (by simp only [sA_A, sS_S, sA_S, sA_lt, sS_lt, Nat.reduceLT, id_eq] <;> rfl) ?_
  replace K := K f_2 q_3
  refine JW.iconst dX3_up_5 rfl ?_
  refine JW.istore_n (ls' := [(0, vR 351), (1, vI x1), (2, vI 0)]) dX3_up_6 (Nat.le_of_ble_eq_true rfl) rfl ?_
  refine JW.iconst dX3_up_7 rfl ?_
  refine JW.istore_n (ls' := [(0, vR 351), (1, vI x1), (2, vI 0), (3, vI 0)]) dX3_up_8 (Nat.le_of_ble_eq_true rfl) rfl ?_
  exact JW.pick [0, 2, 3] rfl K
theorem bX3_up_9 {Q : Option AV → MS → Prop} (b : AH) (s : MS) (x2 : Int) (x3 : Int) (f11 : Int → Int) (f12 : Int → Int) (K : ((s.2 6 1) ≤ x3 → Q (some (vI x2)) (sA (sA s 11 f11) 12 f12)) ∧ (¬ (s.2 6 1) ≤ x3 → (0 ≤ x3 ∧ x3 < 8) ∧ (HX3_up_9 Q b s (i32 ((i32 (x2 * (s.2 6 0))) + (f12 x3))) (i32 (x3 + 1)) f11 f12))) : HX3_up_9 Q b s x2 x3 f11 f12 := by
  refine JW.iload_n dX3_up_9 rfl ?_
  refine JW.aload_n dX3_up_10 rfl ?_
  refine JW.mget (v := vR 358) dX3_up_11 fX3_34 rfl ?_
  refine JW.iconst dX3_up_14 rfl ?_
  refine JW.mald 6 (x := (s.2 6 1)) dX3_up_15 (Nat.le_of_ble_eq_true rfl) rfl (by decide) (by decide) rfl ?_
  refine JW.icmp_ge (tgt := 41) dX3_up_16 rfl (fun c_1 => ?_) (fun c_1 => ?_)
  · have K := K.1 c_1
    refine JW.iload_n dX3_up_41 rfl ?_
    exact JW.ireturn dX3_up_42 rfl rfl ⟨_, rfl, K⟩
  · have K := K.2 c_1
    refine JW.iload_n dX3_up_19 rfl ?_
    refine JW.aload_n dX3_up_20 rfl ?_
    refine JW.mget (v := vR 358) dX3_up_21 fX3_34 rfl ?_
    refine JW.iconst dX3_up_24 rfl ?_
    refine JW.mald 6 (x := (s.2 6 0)) dX3_up_25 (Nat.le_of_ble_eq_true rfl) rfl (by decide) (by decide) rfl ?_
    refine JW.imul dX3_up_26 ?_
    refine JW.aload_n dX3_up_27 rfl ?_
    refine JW.mget (v := vR 364) dX3_up_28 fX3_53 rfl ?_
    refine JW.iload_n dX3_up_31 rfl ?_
    obtain ⟨o_2, K⟩ := K
    refine JW.mald 12 (x := (f12 x3)) dX3_up_32 (Nat.le_of_ble_eq_true rfl) rfl o_2.1 o_2.2 rfl ?_
    refine JW.iadd dX3_up_33 ?_
    refine JW.istore_n (ls' := [(0, vR 351), (2, vI (i32 ((i32 (x2 * (s.2 6 0))) + (f12 x3)))), (3, vI x3)]) dX3_up_34 (Nat.le_of_ble_eq_true rfl) rfl ?_
    refine JW.iinc (ls' := [(0, vR 351), (2, vI (i32 ((i32 (x2 * (s.2 6 0))) + (f12 x3)))), (3, vI (i32 (x3 + 1)))]) dX3_up_35 (Nat.le_of_ble_eq_true rfl) rfl rfl ?_
    refine JW.goto (tgt := 9) dX3_up_38 rfl ?_
    exact JW.pick [0, 2, 3] rfl K
def QX3_up (s : MS) (a1 : Int) : Option AV → MS → Prop := fun v s' => ∃ (f12 : Int → Int), v = some (vI (upv ((s.2 6) 0) ((s.2 6) 1) a1)) ∧ s' = sA (sA s 11 (figs ((s.2 6) 0) ((s.2 6) 1) a1 (s.2 11))) 12 f12
theorem vX3_up_1 (s : MS) (a1 : Int) (hp : tOK (s.2 6) ∧ 0 ≤ a1 ∧ a1 ≤ 100000) (x2 : Int) (x3 : Int) (f11 : Int → Int) (f12 : Int → Int) (hI : (0 ≤ x3 ∧ x3 ≤ s.2 6 1) ∧ f11 = figs (s.2 6 0) (s.2 6 1) a1 (s.2 11) ∧ ascOf (dig (s.2 6 0) (s.2 6 1) a1) f12 (s.2 6 1) ∧ x2 = hor (s.2 6 0) f12 x3.toNat) (c_1 : (s.2 6 1) ≤ x3) : f11 = (figs ((s.2 6) 0) ((s.2 6) 1) a1 (s.2 11)) := by
  obtain ⟨ht, h0, h1⟩ := hp
  have hL := tOK_L ht
  have hB := tOK_B ht
  have hN := tOK_N ht
  have hD := dig_in' (x := a1) ht
  (try unfold lex3)
  (try simp only [bI_0, bI_n, Classical.not_not] at *)
  (try simp (disch := omega) only [i32_id] at *)
  first | done | omega | ((repeat' (with_reducible apply And.intro)) <;> first | assumption | rfl | omega | (rw [hI.2.2.2, show x3 = s.2 6 1 by omega]; exact upv_eq ht hI.2.2.1) | (rw [hI.2.2.2]; exact hor_step ht (asc_in hI.2.2.1 hD) (by omega) (by omega)) | grind [upI])
theorem vX3_up_2 (s : MS) (a1 : Int) (hp : tOK (s.2 6) ∧ 0 ≤ a1 ∧ a1 ≤ 100000) (x2 : Int) (x3 : Int) (f11 : Int → Int) (f12 : Int → Int) (hI : (0 ≤ x3 ∧ x3 ≤ s.2 6 1) ∧ f11 = figs (s.2 6 0) (s.2 6 1) a1 (s.2 11) ∧ ascOf (dig (s.2 6 0) (s.2 6 1) a1) f12 (s.2 6 1) ∧ x2 = hor (s.2 6 0) f12 x3.toNat) (c_1 : (s.2 6 1) ≤ x3) : x2 = (upv ((s.2 6) 0) ((s.2 6) 1) a1) := by
  obtain ⟨ht, h0, h1⟩ := hp
  have hL := tOK_L ht
  have hB := tOK_B ht
  have hN := tOK_N ht
  have hD := dig_in' (x := a1) ht
  (try unfold lex3)
  (try simp only [bI_0, bI_n, Classical.not_not] at *)
  (try simp (disch := omega) only [i32_id] at *)
  first | done | omega | ((repeat' (with_reducible apply And.intro)) <;> first | assumption | rfl | omega | (rw [hI.2.2.2, show x3 = s.2 6 1 by omega]; exact upv_eq ht hI.2.2.1) | (rw [hI.2.2.2]; exact hor_step ht (asc_in hI.2.2.1 hD) (by omega) (by omega)) | grind [upI])
theorem vX3_up_3 (s : MS) (a1 : Int) (hp : tOK (s.2 6) ∧ 0 ≤ a1 ∧ a1 ≤ 100000) (x2 : Int) (x3 : Int) (f11 : Int → Int) (f12 : Int → Int) (hI : (0 ≤ x3 ∧ x3 ≤ s.2 6 1) ∧ f11 = figs (s.2 6 0) (s.2 6 1) a1 (s.2 11) ∧ ascOf (dig (s.2 6 0) (s.2 6 1) a1) f12 (s.2 6 1) ∧ x2 = hor (s.2 6 0) f12 x3.toNat) (c_1 : ¬ (s.2 6 1) ≤ x3) : (0 ≤ x3 ∧ x3 < 8) := by
  obtain ⟨ht, h0, h1⟩ := hp
  have hL := tOK_L ht
  have hB := tOK_B ht
  have hN := tOK_N ht
  have hD := dig_in' (x := a1) ht
  (try unfold lex3)
  (try simp only [bI_0, bI_n, Classical.not_not] at *)
  (try simp (disch := omega) only [i32_id] at *)
  first | done | omega | ((repeat' (with_reducible apply And.intro)) <;> first | assumption | rfl | omega | (rw [hI.2.2.2, show x3 = s.2 6 1 by omega]; exact upv_eq ht hI.2.2.1) | (rw [hI.2.2.2]; exact hor_step ht (asc_in hI.2.2.1 hD) (by omega) (by omega)) | grind [upI])
theorem vX3_up_4 (s : MS) (a1 : Int) (hp : tOK (s.2 6) ∧ 0 ≤ a1 ∧ a1 ≤ 100000) (x2 : Int) (x3 : Int) (f11 : Int → Int) (f12 : Int → Int) (hI : (0 ≤ x3 ∧ x3 ≤ s.2 6 1) ∧ f11 = figs (s.2 6 0) (s.2 6 1) a1 (s.2 11) ∧ ascOf (dig (s.2 6 0) (s.2 6 1) a1) f12 (s.2 6 1) ∧ x2 = hor (s.2 6 0) f12 x3.toNat) (c_1 : ¬ (s.2 6 1) ≤ x3) (o_2 : (0 ≤ x3 ∧ x3 < 8)) : (0 ≤ (i32 (x3 + 1)) ∧ (i32 (x3 + 1)) ≤ s.2 6 1) ∧ f11 = figs (s.2 6 0) (s.2 6 1) a1 (s.2 11) ∧ ascOf (dig (s.2 6 0) (s.2 6 1) a1) f12 (s.2 6 1) ∧ (i32 ((i32 (x2 * (s.2 6 0))) + (f12 x3))) = hor (s.2 6 0) f12 (i32 (x3 + 1)).toNat := by
  obtain ⟨ht, h0, h1⟩ := hp
  have hL := tOK_L ht
  have hB := tOK_B ht
  have hN := tOK_N ht
  have hD := dig_in' (x := a1) ht
  (try unfold lex3)
  (try simp only [bI_0, bI_n, Classical.not_not] at *)
  (try simp (disch := omega) only [i32_id] at *)
  first | done | omega | ((repeat' (with_reducible apply And.intro)) <;> first | assumption | rfl | omega | (rw [hI.2.2.2, show x3 = s.2 6 1 by omega]; exact upv_eq ht hI.2.2.1) | (rw [hI.2.2.2]; exact hor_step ht (asc_in hI.2.2.1 hD) (by omega) (by omega)) | grind [upI])
theorem vX3_up_5 (s : MS) (a1 : Int) (hp : tOK (s.2 6) ∧ 0 ≤ a1 ∧ a1 ≤ 100000) (x2 : Int) (x3 : Int) (f11 : Int → Int) (f12 : Int → Int) (hI : (0 ≤ x3 ∧ x3 ≤ s.2 6 1) ∧ f11 = figs (s.2 6 0) (s.2 6 1) a1 (s.2 11) ∧ ascOf (dig (s.2 6 0) (s.2 6 1) a1) f12 (s.2 6 1) ∧ x2 = hor (s.2 6 0) f12 x3.toNat) (c_1 : ¬ (s.2 6 1) ≤ x3) (o_2 : (0 ≤ x3 ∧ x3 < 8)) : lex3 0 0 ((s.2 6 1 - (i32 (x3 + 1))).toNat) 0 0 ((s.2 6 1 - x3).toNat) := by
  obtain ⟨ht, h0, h1⟩ := hp
  have hL := tOK_L ht
  have hB := tOK_B ht
  have hN := tOK_N ht
  have hD := dig_in' (x := a1) ht
  (try unfold lex3)
  (try simp only [bI_0, bI_n, Classical.not_not] at *)
  (try simp (disch := omega) only [i32_id] at *)
  first | done | omega | ((repeat' (with_reducible apply And.intro)) <;> first | assumption | rfl | omega | (rw [hI.2.2.2, show x3 = s.2 6 1 by omega]; exact upv_eq ht hI.2.2.1) | (rw [hI.2.2.2]; exact hor_step ht (asc_in hI.2.2.1 hD) (by omega) (by omega)) | grind [upI])
theorem vX3_up_6 (s : MS) (a1 : Int) (hp : tOK (s.2 6) ∧ 0 ≤ a1 ∧ a1 ≤ 100000) : (tOK (s.2 6) ∧ 0 ≤ a1 ∧ a1 ≤ 100000) := by
  obtain ⟨ht, h0, h1⟩ := hp
  have hL := tOK_L ht
  have hB := tOK_B ht
  have hN := tOK_N ht
  have hD := dig_in' (x := a1) ht
  (try unfold lex3)
  (try simp only [bI_0, bI_n, Classical.not_not] at *)
  (try simp (disch := omega) only [i32_id] at *)
  first | done | omega | ((repeat' (with_reducible apply And.intro)) <;> first | assumption | rfl | omega | (rw [hI.2.2.2, show x3 = s.2 6 1 by omega]; exact upv_eq ht hI.2.2.1) | (rw [hI.2.2.2]; exact hor_step ht (asc_in hI.2.2.1 hD) (by omega) (by omega)) | grind [upI])
theorem vX3_up_7 (s : MS) (a1 : Int) (hp : tOK (s.2 6) ∧ 0 ≤ a1 ∧ a1 ≤ 100000) (o_1 : (tOK (s.2 6) ∧ 0 ≤ a1 ∧ a1 ≤ 100000)) (f_2 : Int → Int) (q_3 : (ascOf (dig ((s.2 6) 0) ((s.2 6) 1) a1) f_2 ((s.2 6) 1))) : (0 ≤ (0 : Int) ∧ (0 : Int) ≤ s.2 6 1) ∧ (figs ((s.2 6) 0) ((s.2 6) 1) a1 (s.2 11)) = figs (s.2 6 0) (s.2 6 1) a1 (s.2 11) ∧ ascOf (dig (s.2 6 0) (s.2 6 1) a1) f_2 (s.2 6 1) ∧ (0 : Int) = hor (s.2 6 0) f_2 (0 : Int).toNat := by
  obtain ⟨ht, h0, h1⟩ := hp
  have hL := tOK_L ht
  have hB := tOK_B ht
  have hN := tOK_N ht
  have hD := dig_in' (x := a1) ht
  (try unfold lex3)
  (try simp only [bI_0, bI_n, Classical.not_not] at *)
  (try simp (disch := omega) only [i32_id] at *)
  first | done | omega | ((repeat' (with_reducible apply And.intro)) <;> first | assumption | rfl | omega | (rw [hI.2.2.2, show x3 = s.2 6 1 by omega]; exact upv_eq ht hI.2.2.1) | (rw [hI.2.2.2]; exact hor_step ht (asc_in hI.2.2.1 hD) (by omega) (by omega)) | grind [upI])
theorem allX3_up (b : AH) (s : MS) (a1 : Int) (hp : tOK (s.2 6) ∧ 0 ≤ a1 ∧ a1 ≤ 100000) : ∀ m1 m2 m3 : Nat, (∀ (x2 : Int) (x3 : Int) (f11 : Int → Int) (f12 : Int → Int), m1 = 0 → m2 = 0 → m3 = ((s.2 6 1 - x3).toNat) → ((0 ≤ x3 ∧ x3 ≤ s.2 6 1) ∧ f11 = figs (s.2 6 0) (s.2 6 1) a1 (s.2 11) ∧ ascOf (dig (s.2 6 0) (s.2 6 1) a1) f12 (s.2 6 1) ∧ x2 = hor (s.2 6 0) f12 x3.toNat) → HX3_up_9 (QX3_up s a1) b s x2 x3 f11 f12) := by
  refine lex3_ind ?_
  intro m1 m2 m3 ih
  rintro x2 x3 f11 f12 rfl rfl rfl hI
  refine bX3_up_9 b s x2 x3 f11 f12 ?_
  refine ⟨fun c_1 => ?_, fun c_1 => ?_⟩
  · exact ⟨f12, (rI_c (vX3_up_2 s a1 hp x2 x3 f11 f12 hI c_1)), (sA_c (sA_c rfl (vX3_up_1 s a1 hp x2 x3 f11 f12 hI c_1)) rfl)⟩
  · have o_2 : (0 ≤ x3 ∧ x3 < 8) := (vX3_up_3 s a1 hp x2 x3 f11 f12 hI c_1)
    refine ⟨o_2, ?_⟩
    exact (ih _ _ _ (vX3_up_5 s a1 hp x2 x3 f11 f12 hI c_1 o_2)) (i32 ((i32 (x2 * (s.2 6 0))) + (f12 x3))) (i32 (x3 + 1)) f11 f12 rfl rfl rfl (vX3_up_4 s a1 hp x2 x3 f11 f12 hI c_1 o_2)
theorem ctX3_up (b : AH) (s : MS) (a1 : Int) (hp : tOK (s.2 6) ∧ 0 ≤ a1 ∧ a1 ≤ 100000) : MC mX3_up 3 b s [vI a1] (QX3_up s a1) := by
  refine MC.of (by decide) rfl (Nat.le_of_ble_eq_true rfl) (JW.steq (s2 := sA (sA s 11 (s.2 11)) 12 (s.2 12)) (by simp only [sA_id, sS_id]) ?_)
  refine bX3_up_0 b s a1 (s.2 11) (s.2 12) ?_
  have o_1 : (tOK (s.2 6) ∧ 0 ≤ a1 ∧ a1 ≤ 100000) := (vX3_up_6 s a1 hp)
  refine ⟨o_1, ?_⟩
  intro f_2 q_3
  exact (allX3_up b s a1 hp _ _ _) 0 0 (figs ((s.2 6) 0) ((s.2 6) 1) a1 (s.2 11)) f_2 rfl rfl rfl (vX3_up_7 s a1 hp o_1 f_2 q_3)
def HX3_down_0 (Q : Option AV → MS → Prop) (b : AH) (s : MS) (x1 : Int) (f11 : Int → Int) (f12 : Int → Int) : Prop := MW mX3_down 3 Q b 0 [(0, vR 351), (1, vI x1)] [] (sA (sA s 11 f11) 12 f12)
def HX3_down_16 (Q : Option AV → MS → Prop) (b : AH) (s : MS) (x2 : Int) (x3 : Int) (f11 : Int → Int) (f12 : Int → Int) : Prop := MW mX3_down 3 Q b 16 [(0, vR 351), (2, vI x2), (3, vI x3)] [] (sA (sA s 11 f11) 12 f12)
theorem bX3_down_0 {Q : Option AV → MS → Prop} (b : AH) (s : MS) (x1 : Int) (f11 : Int → Int) (f12 : Int → Int) (K : (tOK (s.2 6) ∧ 0 ≤ x1 ∧ x1 ≤ 100000) ∧ ((∀ (f_2 : Int → Int), (ascOf (dig ((s.2 6) 0) ((s.2 6) 1) x1) f_2 ((s.2 6) 1)) → HX3_down_16 Q b s 0 (i32 ((s.2 6 1) - 1)) (figs ((s.2 6) 0) ((s.2 6) 1) x1 f11) f_2))) : HX3_down_0 Q b s x1 f11 f12 := by
  refine JW.aload_n dX3_down_0 rfl ?_
  refine JW.iload_n dX3_down_1 rfl ?_
  obtain ⟨o_1, K⟩ := K
  refine JW.mcall (As := [vI x1]) dX3_down_2 vX3_sorts rfl q1830 (ctX3_sorts b (sA (sA s 11 f11) 12 f12) x1 o_1) (Nat.le_of_ble_eq_true rfl) rfl (Nat.le_of_ble_eq_true rfl) ?_
  rintro _ _ ⟨f_2, rfl, rfl, q_3⟩
  refine JW.steq (s2 := sA (sA s 11 (figs ((s.2 6) 0) ((s.2 6) 1) x1 f11)) 12 f_2) (by simp only [sA_A, sS_S, sA_S, sA_lt, sS_lt, Nat.reduceLT, id_eq] <;> rfl) ?_
  replace K := K f_2 q_3
  refine JW.iconst dX3_down_5 rfl ?_
  refine JW.istore_n (ls' := [(0, vR 351), (1, vI x1), (2, vI 0)]) dX3_down_6 (Nat.le_of_ble_eq_true rfl) rfl ?_
  refine JW.aload_n dX3_down_7 rfl ?_
  refine JW.mget (v := vR 358) dX3_down_8 fX3_34 rfl ?_
  refine JW.iconst dX3_down_11 rfl ?_
  refine JW.mald 6 (x := (s.2 6 1)) dX3_down_12 (Nat.le_of_ble_eq_true rfl) rfl (by decide) (by decide) rfl ?_
  refine JW.iconst dX3_down_13 rfl ?_
  refine JW.isub dX3_down_14 ?_
  refine JW.istore_n (ls' := [(0, vR 351), (1, vI x1), (2, vI 0), (3, vI (i32 ((s.2 6 1) - 1)))]) dX3_down_15 (Nat.le_of_ble_eq_true rfl) rfl ?_
  exact JW.pick [0, 2, 3] rfl K
theorem bX3_down_16 {Q : Option AV → MS → Prop} (b : AH) (s : MS) (x2 : Int) (x3 : Int) (f11 : Int → Int) (f12 : Int → Int) (K : (x3 < 0 → Q (some (vI x2)) (sA (sA s 11 f11) 12 f12)) ∧ (¬ x3 < 0 → (0 ≤ x3 ∧ x3 < 8) ∧ (HX3_down_16 Q b s (i32 ((i32 (x2 * (s.2 6 0))) + (f12 x3))) (i32 (x3 + (-1))) f11 f12))) : HX3_down_16 Q b s x2 x3 f11 f12 := by
  refine JW.iload_n dX3_down_16 rfl ?_
  refine JW.if_lt (tgt := 42) dX3_down_17 rfl (fun c_1 => ?_) (fun c_1 => ?_)
  · have K := K.1 c_1
    refine JW.iload_n dX3_down_42 rfl ?_
    exact JW.ireturn dX3_down_43 rfl rfl ⟨_, rfl, K⟩
  · have K := K.2 c_1
    refine JW.iload_n dX3_down_20 rfl ?_
    refine JW.aload_n dX3_down_21 rfl ?_
    refine JW.mget (v := vR 358) dX3_down_22 fX3_34 rfl ?_
    refine JW.iconst dX3_down_25 rfl ?_
    refine JW.mald 6 (x := (s.2 6 0)) dX3_down_26 (Nat.le_of_ble_eq_true rfl) rfl (by decide) (by decide) rfl ?_
    refine JW.imul dX3_down_27 ?_
    refine JW.aload_n dX3_down_28 rfl ?_
    refine JW.mget (v := vR 364) dX3_down_29 fX3_53 rfl ?_
    refine JW.iload_n dX3_down_32 rfl ?_
    obtain ⟨o_2, K⟩ := K
    refine JW.mald 12 (x := (f12 x3)) dX3_down_33 (Nat.le_of_ble_eq_true rfl) rfl o_2.1 o_2.2 rfl ?_
    refine JW.iadd dX3_down_34 ?_
    refine JW.istore_n (ls' := [(0, vR 351), (2, vI (i32 ((i32 (x2 * (s.2 6 0))) + (f12 x3)))), (3, vI x3)]) dX3_down_35 (Nat.le_of_ble_eq_true rfl) rfl ?_
    refine JW.iinc (ls' := [(0, vR 351), (2, vI (i32 ((i32 (x2 * (s.2 6 0))) + (f12 x3)))), (3, vI (i32 (x3 + (-1))))]) dX3_down_36 (Nat.le_of_ble_eq_true rfl) rfl rfl ?_
    refine JW.goto (tgt := 16) dX3_down_39 rfl ?_
    exact JW.pick [0, 2, 3] rfl K
def QX3_down (s : MS) (a1 : Int) : Option AV → MS → Prop := fun v s' => ∃ (f12 : Int → Int), v = some (vI (dnv ((s.2 6) 0) ((s.2 6) 1) a1)) ∧ s' = sA (sA s 11 (figs ((s.2 6) 0) ((s.2 6) 1) a1 (s.2 11))) 12 f12
theorem vX3_down_1 (s : MS) (a1 : Int) (hp : tOK (s.2 6) ∧ 0 ≤ a1 ∧ a1 ≤ 100000) (x2 : Int) (x3 : Int) (f11 : Int → Int) (f12 : Int → Int) (hI : (-1 ≤ x3 ∧ x3 < s.2 6 1) ∧ f11 = figs (s.2 6 0) (s.2 6 1) a1 (s.2 11) ∧ ascOf (dig (s.2 6 0) (s.2 6 1) a1) f12 (s.2 6 1) ∧ x2 = hor (s.2 6 0) (fun i => f12 (s.2 6 1 - 1 - i)) (s.2 6 1 - 1 - x3).toNat) (c_1 : x3 < 0) : f11 = (figs ((s.2 6) 0) ((s.2 6) 1) a1 (s.2 11)) := by
  obtain ⟨ht, h0, h1⟩ := hp
  have hL := tOK_L ht
  have hB := tOK_B ht
  have hN := tOK_N ht
  have hD := dig_in' (x := a1) ht
  (try unfold lex3)
  (try simp only [bI_0, bI_n, Classical.not_not] at *)
  (try simp (disch := omega) only [i32_id] at *)
  first | done | omega | ((repeat' (with_reducible apply And.intro)) <;> first | assumption | rfl | omega | (rw [hI.2.2.2, show (s.2 6 1 - 1 - x3).toNat = (s.2 6 1).toNat by omega]; exact dnv_eq ht hI.2.2.1) | (rw [hI.2.2.2]; exact hor_down ht (asc_in hI.2.2.1 hD) (by omega) (by omega)) | (rw [show (s.2 6 1 - 1 - (s.2 6 1 - 1)).toNat = 0 by omega]; rfl) | grind [upI])
theorem vX3_down_2 (s : MS) (a1 : Int) (hp : tOK (s.2 6) ∧ 0 ≤ a1 ∧ a1 ≤ 100000) (x2 : Int) (x3 : Int) (f11 : Int → Int) (f12 : Int → Int) (hI : (-1 ≤ x3 ∧ x3 < s.2 6 1) ∧ f11 = figs (s.2 6 0) (s.2 6 1) a1 (s.2 11) ∧ ascOf (dig (s.2 6 0) (s.2 6 1) a1) f12 (s.2 6 1) ∧ x2 = hor (s.2 6 0) (fun i => f12 (s.2 6 1 - 1 - i)) (s.2 6 1 - 1 - x3).toNat) (c_1 : x3 < 0) : x2 = (dnv ((s.2 6) 0) ((s.2 6) 1) a1) := by
  obtain ⟨ht, h0, h1⟩ := hp
  have hL := tOK_L ht
  have hB := tOK_B ht
  have hN := tOK_N ht
  have hD := dig_in' (x := a1) ht
  (try unfold lex3)
  (try simp only [bI_0, bI_n, Classical.not_not] at *)
  (try simp (disch := omega) only [i32_id] at *)
  first | done | omega | ((repeat' (with_reducible apply And.intro)) <;> first | assumption | rfl | omega | (rw [hI.2.2.2, show (s.2 6 1 - 1 - x3).toNat = (s.2 6 1).toNat by omega]; exact dnv_eq ht hI.2.2.1) | (rw [hI.2.2.2]; exact hor_down ht (asc_in hI.2.2.1 hD) (by omega) (by omega)) | (rw [show (s.2 6 1 - 1 - (s.2 6 1 - 1)).toNat = 0 by omega]; rfl) | grind [upI])
theorem vX3_down_3 (s : MS) (a1 : Int) (hp : tOK (s.2 6) ∧ 0 ≤ a1 ∧ a1 ≤ 100000) (x2 : Int) (x3 : Int) (f11 : Int → Int) (f12 : Int → Int) (hI : (-1 ≤ x3 ∧ x3 < s.2 6 1) ∧ f11 = figs (s.2 6 0) (s.2 6 1) a1 (s.2 11) ∧ ascOf (dig (s.2 6 0) (s.2 6 1) a1) f12 (s.2 6 1) ∧ x2 = hor (s.2 6 0) (fun i => f12 (s.2 6 1 - 1 - i)) (s.2 6 1 - 1 - x3).toNat) (c_1 : ¬ x3 < 0) : (0 ≤ x3 ∧ x3 < 8) := by
  obtain ⟨ht, h0, h1⟩ := hp
  have hL := tOK_L ht
  have hB := tOK_B ht
  have hN := tOK_N ht
  have hD := dig_in' (x := a1) ht
  (try unfold lex3)
  (try simp only [bI_0, bI_n, Classical.not_not] at *)
  (try simp (disch := omega) only [i32_id] at *)
  first | done | omega | ((repeat' (with_reducible apply And.intro)) <;> first | assumption | rfl | omega | (rw [hI.2.2.2, show (s.2 6 1 - 1 - x3).toNat = (s.2 6 1).toNat by omega]; exact dnv_eq ht hI.2.2.1) | (rw [hI.2.2.2]; exact hor_down ht (asc_in hI.2.2.1 hD) (by omega) (by omega)) | (rw [show (s.2 6 1 - 1 - (s.2 6 1 - 1)).toNat = 0 by omega]; rfl) | grind [upI])
theorem vX3_down_4 (s : MS) (a1 : Int) (hp : tOK (s.2 6) ∧ 0 ≤ a1 ∧ a1 ≤ 100000) (x2 : Int) (x3 : Int) (f11 : Int → Int) (f12 : Int → Int) (hI : (-1 ≤ x3 ∧ x3 < s.2 6 1) ∧ f11 = figs (s.2 6 0) (s.2 6 1) a1 (s.2 11) ∧ ascOf (dig (s.2 6 0) (s.2 6 1) a1) f12 (s.2 6 1) ∧ x2 = hor (s.2 6 0) (fun i => f12 (s.2 6 1 - 1 - i)) (s.2 6 1 - 1 - x3).toNat) (c_1 : ¬ x3 < 0) (o_2 : (0 ≤ x3 ∧ x3 < 8)) : (-1 ≤ (i32 (x3 + (-1))) ∧ (i32 (x3 + (-1))) < s.2 6 1) ∧ f11 = figs (s.2 6 0) (s.2 6 1) a1 (s.2 11) ∧ ascOf (dig (s.2 6 0) (s.2 6 1) a1) f12 (s.2 6 1) ∧ (i32 ((i32 (x2 * (s.2 6 0))) + (f12 x3))) = hor (s.2 6 0) (fun i => f12 (s.2 6 1 - 1 - i)) (s.2 6 1 - 1 - (i32 (x3 + (-1)))).toNat := by
  obtain ⟨ht, h0, h1⟩ := hp
  have hL := tOK_L ht
  have hB := tOK_B ht
  have hN := tOK_N ht
  have hD := dig_in' (x := a1) ht
  (try unfold lex3)
  (try simp only [bI_0, bI_n, Classical.not_not] at *)
  (try simp (disch := omega) only [i32_id] at *)
  first | done | omega | ((repeat' (with_reducible apply And.intro)) <;> first | assumption | rfl | omega | (rw [hI.2.2.2, show (s.2 6 1 - 1 - x3).toNat = (s.2 6 1).toNat by omega]; exact dnv_eq ht hI.2.2.1) | (rw [hI.2.2.2]; exact hor_down ht (asc_in hI.2.2.1 hD) (by omega) (by omega)) | (rw [show (s.2 6 1 - 1 - (s.2 6 1 - 1)).toNat = 0 by omega]; rfl) | grind [upI])
theorem vX3_down_5 (s : MS) (a1 : Int) (hp : tOK (s.2 6) ∧ 0 ≤ a1 ∧ a1 ≤ 100000) (x2 : Int) (x3 : Int) (f11 : Int → Int) (f12 : Int → Int) (hI : (-1 ≤ x3 ∧ x3 < s.2 6 1) ∧ f11 = figs (s.2 6 0) (s.2 6 1) a1 (s.2 11) ∧ ascOf (dig (s.2 6 0) (s.2 6 1) a1) f12 (s.2 6 1) ∧ x2 = hor (s.2 6 0) (fun i => f12 (s.2 6 1 - 1 - i)) (s.2 6 1 - 1 - x3).toNat) (c_1 : ¬ x3 < 0) (o_2 : (0 ≤ x3 ∧ x3 < 8)) : lex3 0 0 (((i32 (x3 + (-1))) + 1).toNat) 0 0 ((x3 + 1).toNat) := by
  obtain ⟨ht, h0, h1⟩ := hp
  have hL := tOK_L ht
  have hB := tOK_B ht
  have hN := tOK_N ht
  have hD := dig_in' (x := a1) ht
  (try unfold lex3)
  (try simp only [bI_0, bI_n, Classical.not_not] at *)
  (try simp (disch := omega) only [i32_id] at *)
  first | done | omega | ((repeat' (with_reducible apply And.intro)) <;> first | assumption | rfl | omega | (rw [hI.2.2.2, show (s.2 6 1 - 1 - x3).toNat = (s.2 6 1).toNat by omega]; exact dnv_eq ht hI.2.2.1) | (rw [hI.2.2.2]; exact hor_down ht (asc_in hI.2.2.1 hD) (by omega) (by omega)) | (rw [show (s.2 6 1 - 1 - (s.2 6 1 - 1)).toNat = 0 by omega]; rfl) | grind [upI])
theorem vX3_down_6 (s : MS) (a1 : Int) (hp : tOK (s.2 6) ∧ 0 ≤ a1 ∧ a1 ≤ 100000) : (tOK (s.2 6) ∧ 0 ≤ a1 ∧ a1 ≤ 100000) := by
  obtain ⟨ht, h0, h1⟩ := hp
  have hL := tOK_L ht
  have hB := tOK_B ht
  have hN := tOK_N ht
  have hD := dig_in' (x := a1) ht
  (try unfold lex3)
  (try simp only [bI_0, bI_n, Classical.not_not] at *)
  (try simp (disch := omega) only [i32_id] at *)
  first | done | omega | ((repeat' (with_reducible apply And.intro)) <;> first | assumption | rfl | omega | (rw [hI.2.2.2, show (s.2 6 1 - 1 - x3).toNat = (s.2 6 1).toNat by omega]; exact dnv_eq ht hI.2.2.1) | (rw [hI.2.2.2]; exact hor_down ht (asc_in hI.2.2.1 hD) (by omega) (by omega)) | (rw [show (s.2 6 1 - 1 - (s.2 6 1 - 1)).toNat = 0 by omega]; rfl) | grind [upI])
theorem vX3_down_7 (s : MS) (a1 : Int) (hp : tOK (s.2 6) ∧ 0 ≤ a1 ∧ a1 ≤ 100000) (o_1 : (tOK (s.2 6) ∧ 0 ≤ a1 ∧ a1 ≤ 100000)) (f_2 : Int → Int) (q_3 : (ascOf (dig ((s.2 6) 0) ((s.2 6) 1) a1) f_2 ((s.2 6) 1))) : (-1 ≤ (i32 ((s.2 6 1) - 1)) ∧ (i32 ((s.2 6 1) - 1)) < s.2 6 1) ∧ (figs ((s.2 6) 0) ((s.2 6) 1) a1 (s.2 11)) = figs (s.2 6 0) (s.2 6 1) a1 (s.2 11) ∧ ascOf (dig (s.2 6 0) (s.2 6 1) a1) f_2 (s.2 6 1) ∧ (0 : Int) = hor (s.2 6 0) (fun i => f_2 (s.2 6 1 - 1 - i)) (s.2 6 1 - 1 - (i32 ((s.2 6 1) - 1))).toNat := by
  obtain ⟨ht, h0, h1⟩ := hp
  have hL := tOK_L ht
  have hB := tOK_B ht
  have hN := tOK_N ht
  have hD := dig_in' (x := a1) ht
  (try unfold lex3)
  (try simp only [bI_0, bI_n, Classical.not_not] at *)
  (try simp (disch := omega) only [i32_id] at *)
  first | done | omega | ((repeat' (with_reducible apply And.intro)) <;> first | assumption | rfl | omega | (rw [hI.2.2.2, show (s.2 6 1 - 1 - x3).toNat = (s.2 6 1).toNat by omega]; exact dnv_eq ht hI.2.2.1) | (rw [hI.2.2.2]; exact hor_down ht (asc_in hI.2.2.1 hD) (by omega) (by omega)) | (rw [show (s.2 6 1 - 1 - (s.2 6 1 - 1)).toNat = 0 by omega]; rfl) | grind [upI])
theorem allX3_down (b : AH) (s : MS) (a1 : Int) (hp : tOK (s.2 6) ∧ 0 ≤ a1 ∧ a1 ≤ 100000) : ∀ m1 m2 m3 : Nat, (∀ (x2 : Int) (x3 : Int) (f11 : Int → Int) (f12 : Int → Int), m1 = 0 → m2 = 0 → m3 = ((x3 + 1).toNat) → ((-1 ≤ x3 ∧ x3 < s.2 6 1) ∧ f11 = figs (s.2 6 0) (s.2 6 1) a1 (s.2 11) ∧ ascOf (dig (s.2 6 0) (s.2 6 1) a1) f12 (s.2 6 1) ∧ x2 = hor (s.2 6 0) (fun i => f12 (s.2 6 1 - 1 - i)) (s.2 6 1 - 1 - x3).toNat) → HX3_down_16 (QX3_down s a1) b s x2 x3 f11 f12) := by
  refine lex3_ind ?_
  intro m1 m2 m3 ih
  rintro x2 x3 f11 f12 rfl rfl rfl hI
  refine bX3_down_16 b s x2 x3 f11 f12 ?_
  refine ⟨fun c_1 => ?_, fun c_1 => ?_⟩
  · exact ⟨f12, (rI_c (vX3_down_2 s a1 hp x2 x3 f11 f12 hI c_1)), (sA_c (sA_c rfl (vX3_down_1 s a1 hp x2 x3 f11 f12 hI c_1)) rfl)⟩
  · have o_2 : (0 ≤ x3 ∧ x3 < 8) := (vX3_down_3 s a1 hp x2 x3 f11 f12 hI c_1)
    refine ⟨o_2, ?_⟩
    exact (ih _ _ _ (vX3_down_5 s a1 hp x2 x3 f11 f12 hI c_1 o_2)) (i32 ((i32 (x2 * (s.2 6 0))) + (f12 x3))) (i32 (x3 + (-1))) f11 f12 rfl rfl rfl (vX3_down_4 s a1 hp x2 x3 f11 f12 hI c_1 o_2)
theorem ctX3_down (b : AH) (s : MS) (a1 : Int) (hp : tOK (s.2 6) ∧ 0 ≤ a1 ∧ a1 ≤ 100000) : MC mX3_down 3 b s [vI a1] (QX3_down s a1) := by
  refine MC.of (by decide) rfl (Nat.le_of_ble_eq_true rfl) (JW.steq (s2 := sA (sA s 11 (s.2 11)) 12 (s.2 12)) (by simp only [sA_id, sS_id]) ?_)
  refine bX3_down_0 b s a1 (s.2 11) (s.2 12) ?_
  have o_1 : (tOK (s.2 6) ∧ 0 ≤ a1 ∧ a1 ≤ 100000) := (vX3_down_6 s a1 hp)
  refine ⟨o_1, ?_⟩
  intro f_2 q_3
  exact (allX3_down b s a1 hp _ _ _) 0 (i32 ((s.2 6 1) - 1)) (figs ((s.2 6) 0) ((s.2 6) 1) a1 (s.2 11)) f_2 rfl rfl rfl (vX3_down_7 s a1 hp o_1 f_2 q_3)
def HX3_turned_0 (Q : Option AV → MS → Prop) (b : AH) (s : MS) (x1 : Int) (f11 : Int → Int) : Prop := MW mX3_turned 2 Q b 0 [(0, vR 351), (1, vI x1)] [] (sA s 11 f11)
def HX3_turned_16 (Q : Option AV → MS → Prop) (b : AH) (s : MS) (x2 : Int) (x3 : Int) (f11 : Int → Int) : Prop := MW mX3_turned 2 Q b 16 [(0, vR 351), (2, vI x2), (3, vI x3)] [] (sA s 11 f11)
theorem bX3_turned_0 {Q : Option AV → MS → Prop} (b : AH) (s : MS) (x1 : Int) (f11 : Int → Int) (K : (tOK (s.2 6) ∧ 0 ≤ x1 ∧ x1 ≤ 100000) ∧ (HX3_turned_16 Q b s 0 (i32 ((s.2 6 1) - 1)) (figs ((s.2 6) 0) ((s.2 6) 1) x1 f11))) : HX3_turned_0 Q b s x1 f11 := by
  refine JW.aload_n dX3_turned_0 rfl ?_
  refine JW.iload_n dX3_turned_1 rfl ?_
  obtain ⟨o_1, K⟩ := K
  refine JW.mcall (As := [vI x1]) dX3_turned_2 vX3_figures rfl q1810 (ctX3_figures b (sA s 11 f11) x1 o_1) (Nat.le_of_ble_eq_true rfl) rfl (Nat.le_of_ble_eq_true rfl) ?_
  rintro _ _ ⟨rfl, rfl⟩
  refine JW.steq (s2 := sA s 11 (figs ((s.2 6) 0) ((s.2 6) 1) x1 f11)) (by simp only [sA_A, sS_S, sA_S, sA_lt, sS_lt, Nat.reduceLT, id_eq] <;> rfl) ?_
  refine JW.iconst dX3_turned_5 rfl ?_
  refine JW.istore_n (ls' := [(0, vR 351), (1, vI x1), (2, vI 0)]) dX3_turned_6 (Nat.le_of_ble_eq_true rfl) rfl ?_
  refine JW.aload_n dX3_turned_7 rfl ?_
  refine JW.mget (v := vR 358) dX3_turned_8 fX3_34 rfl ?_
  refine JW.iconst dX3_turned_11 rfl ?_
  refine JW.mald 6 (x := (s.2 6 1)) dX3_turned_12 (Nat.le_of_ble_eq_true rfl) rfl (by decide) (by decide) rfl ?_
  refine JW.iconst dX3_turned_13 rfl ?_
  refine JW.isub dX3_turned_14 ?_
  refine JW.istore_n (ls' := [(0, vR 351), (1, vI x1), (2, vI 0), (3, vI (i32 ((s.2 6 1) - 1)))]) dX3_turned_15 (Nat.le_of_ble_eq_true rfl) rfl ?_
  exact JW.pick [0, 2, 3] rfl K
theorem bX3_turned_16 {Q : Option AV → MS → Prop} (b : AH) (s : MS) (x2 : Int) (x3 : Int) (f11 : Int → Int) (K : (x3 < 0 → Q (some (vI x2)) (sA s 11 f11)) ∧ (¬ x3 < 0 → (0 ≤ x3 ∧ x3 < 8) ∧ (HX3_turned_16 Q b s (i32 ((i32 (x2 * (s.2 6 0))) + (f11 x3))) (i32 (x3 + (-1))) f11))) : HX3_turned_16 Q b s x2 x3 f11 := by
  refine JW.iload_n dX3_turned_16 rfl ?_
  refine JW.if_lt (tgt := 42) dX3_turned_17 rfl (fun c_1 => ?_) (fun c_1 => ?_)
  · have K := K.1 c_1
    refine JW.iload_n dX3_turned_42 rfl ?_
    exact JW.ireturn dX3_turned_43 rfl rfl ⟨_, rfl, K⟩
  · have K := K.2 c_1
    refine JW.iload_n dX3_turned_20 rfl ?_
    refine JW.aload_n dX3_turned_21 rfl ?_
    refine JW.mget (v := vR 358) dX3_turned_22 fX3_34 rfl ?_
    refine JW.iconst dX3_turned_25 rfl ?_
    refine JW.mald 6 (x := (s.2 6 0)) dX3_turned_26 (Nat.le_of_ble_eq_true rfl) rfl (by decide) (by decide) rfl ?_
    refine JW.imul dX3_turned_27 ?_
    refine JW.aload_n dX3_turned_28 rfl ?_
    refine JW.mget (v := vR 363) dX3_turned_29 fX3_50 rfl ?_
    refine JW.iload_n dX3_turned_32 rfl ?_
    obtain ⟨o_2, K⟩ := K
    refine JW.mald 11 (x := (f11 x3)) dX3_turned_33 (Nat.le_of_ble_eq_true rfl) rfl o_2.1 o_2.2 rfl ?_
    refine JW.iadd dX3_turned_34 ?_
    refine JW.istore_n (ls' := [(0, vR 351), (2, vI (i32 ((i32 (x2 * (s.2 6 0))) + (f11 x3)))), (3, vI x3)]) dX3_turned_35 (Nat.le_of_ble_eq_true rfl) rfl ?_
    refine JW.iinc (ls' := [(0, vR 351), (2, vI (i32 ((i32 (x2 * (s.2 6 0))) + (f11 x3)))), (3, vI (i32 (x3 + (-1))))]) dX3_turned_36 (Nat.le_of_ble_eq_true rfl) rfl rfl ?_
    refine JW.goto (tgt := 16) dX3_turned_39 rfl ?_
    exact JW.pick [0, 2, 3] rfl K
def QX3_turned (s : MS) (a1 : Int) : Option AV → MS → Prop := fun v s' => v = some (vI (trn ((s.2 6) 0) ((s.2 6) 1) a1)) ∧ s' = sA s 11 (figs ((s.2 6) 0) ((s.2 6) 1) a1 (s.2 11))
theorem vX3_turned_1 (s : MS) (a1 : Int) (hp : tOK (s.2 6) ∧ 0 ≤ a1 ∧ a1 ≤ 100000) (x2 : Int) (x3 : Int) (f11 : Int → Int) (hI : (-1 ≤ x3 ∧ x3 < s.2 6 1) ∧ f11 = figs (s.2 6 0) (s.2 6 1) a1 (s.2 11) ∧ x2 = hor (s.2 6 0) (fun i => dig (s.2 6 0) (s.2 6 1) a1 (s.2 6 1 - 1 - i)) (s.2 6 1 - 1 - x3).toNat) (c_1 : x3 < 0) : f11 = (figs ((s.2 6) 0) ((s.2 6) 1) a1 (s.2 11)) := by
  obtain ⟨ht, h0, h1⟩ := hp
  have hL := tOK_L ht
  have hB := tOK_B ht
  have hN := tOK_N ht
  have hD := dig_in' (x := a1) ht
  (try unfold lex3)
  (try simp only [bI_0, bI_n, Classical.not_not] at *)
  (try simp (disch := omega) only [i32_id] at *)
  first | done | omega | ((repeat' (with_reducible apply And.intro)) <;> first | assumption | rfl | omega | (rw [hI.2.2, show (s.2 6 1 - 1 - x3).toNat = (s.2 6 1).toNat by omega]; rfl) | (rw [hI.2.2, hI.2.1, figs_at (by omega) (by omega)]; exact hor_down ht hD (by omega) (by omega)) | (rw [show (s.2 6 1 - 1 - (s.2 6 1 - 1)).toNat = 0 by omega]; rfl) | grind [upI])
theorem vX3_turned_2 (s : MS) (a1 : Int) (hp : tOK (s.2 6) ∧ 0 ≤ a1 ∧ a1 ≤ 100000) (x2 : Int) (x3 : Int) (f11 : Int → Int) (hI : (-1 ≤ x3 ∧ x3 < s.2 6 1) ∧ f11 = figs (s.2 6 0) (s.2 6 1) a1 (s.2 11) ∧ x2 = hor (s.2 6 0) (fun i => dig (s.2 6 0) (s.2 6 1) a1 (s.2 6 1 - 1 - i)) (s.2 6 1 - 1 - x3).toNat) (c_1 : x3 < 0) : x2 = (trn ((s.2 6) 0) ((s.2 6) 1) a1) := by
  obtain ⟨ht, h0, h1⟩ := hp
  have hL := tOK_L ht
  have hB := tOK_B ht
  have hN := tOK_N ht
  have hD := dig_in' (x := a1) ht
  (try unfold lex3)
  (try simp only [bI_0, bI_n, Classical.not_not] at *)
  (try simp (disch := omega) only [i32_id] at *)
  first | done | omega | ((repeat' (with_reducible apply And.intro)) <;> first | assumption | rfl | omega | (rw [hI.2.2, show (s.2 6 1 - 1 - x3).toNat = (s.2 6 1).toNat by omega]; rfl) | (rw [hI.2.2, hI.2.1, figs_at (by omega) (by omega)]; exact hor_down ht hD (by omega) (by omega)) | (rw [show (s.2 6 1 - 1 - (s.2 6 1 - 1)).toNat = 0 by omega]; rfl) | grind [upI])
theorem vX3_turned_3 (s : MS) (a1 : Int) (hp : tOK (s.2 6) ∧ 0 ≤ a1 ∧ a1 ≤ 100000) (x2 : Int) (x3 : Int) (f11 : Int → Int) (hI : (-1 ≤ x3 ∧ x3 < s.2 6 1) ∧ f11 = figs (s.2 6 0) (s.2 6 1) a1 (s.2 11) ∧ x2 = hor (s.2 6 0) (fun i => dig (s.2 6 0) (s.2 6 1) a1 (s.2 6 1 - 1 - i)) (s.2 6 1 - 1 - x3).toNat) (c_1 : ¬ x3 < 0) : (0 ≤ x3 ∧ x3 < 8) := by
  obtain ⟨ht, h0, h1⟩ := hp
  have hL := tOK_L ht
  have hB := tOK_B ht
  have hN := tOK_N ht
  have hD := dig_in' (x := a1) ht
  (try unfold lex3)
  (try simp only [bI_0, bI_n, Classical.not_not] at *)
  (try simp (disch := omega) only [i32_id] at *)
  first | done | omega | ((repeat' (with_reducible apply And.intro)) <;> first | assumption | rfl | omega | (rw [hI.2.2, show (s.2 6 1 - 1 - x3).toNat = (s.2 6 1).toNat by omega]; rfl) | (rw [hI.2.2, hI.2.1, figs_at (by omega) (by omega)]; exact hor_down ht hD (by omega) (by omega)) | (rw [show (s.2 6 1 - 1 - (s.2 6 1 - 1)).toNat = 0 by omega]; rfl) | grind [upI])
theorem vX3_turned_4 (s : MS) (a1 : Int) (hp : tOK (s.2 6) ∧ 0 ≤ a1 ∧ a1 ≤ 100000) (x2 : Int) (x3 : Int) (f11 : Int → Int) (hI : (-1 ≤ x3 ∧ x3 < s.2 6 1) ∧ f11 = figs (s.2 6 0) (s.2 6 1) a1 (s.2 11) ∧ x2 = hor (s.2 6 0) (fun i => dig (s.2 6 0) (s.2 6 1) a1 (s.2 6 1 - 1 - i)) (s.2 6 1 - 1 - x3).toNat) (c_1 : ¬ x3 < 0) (o_2 : (0 ≤ x3 ∧ x3 < 8)) : (-1 ≤ (i32 (x3 + (-1))) ∧ (i32 (x3 + (-1))) < s.2 6 1) ∧ f11 = figs (s.2 6 0) (s.2 6 1) a1 (s.2 11) ∧ (i32 ((i32 (x2 * (s.2 6 0))) + (f11 x3))) = hor (s.2 6 0) (fun i => dig (s.2 6 0) (s.2 6 1) a1 (s.2 6 1 - 1 - i)) (s.2 6 1 - 1 - (i32 (x3 + (-1)))).toNat := by
  obtain ⟨ht, h0, h1⟩ := hp
  have hL := tOK_L ht
  have hB := tOK_B ht
  have hN := tOK_N ht
  have hD := dig_in' (x := a1) ht
  (try unfold lex3)
  (try simp only [bI_0, bI_n, Classical.not_not] at *)
  (try simp (disch := omega) only [i32_id] at *)
  first | done | omega | ((repeat' (with_reducible apply And.intro)) <;> first | assumption | rfl | omega | (rw [hI.2.2, show (s.2 6 1 - 1 - x3).toNat = (s.2 6 1).toNat by omega]; rfl) | (rw [hI.2.2, hI.2.1, figs_at (by omega) (by omega)]; exact hor_down ht hD (by omega) (by omega)) | (rw [show (s.2 6 1 - 1 - (s.2 6 1 - 1)).toNat = 0 by omega]; rfl) | grind [upI])
theorem vX3_turned_5 (s : MS) (a1 : Int) (hp : tOK (s.2 6) ∧ 0 ≤ a1 ∧ a1 ≤ 100000) (x2 : Int) (x3 : Int) (f11 : Int → Int) (hI : (-1 ≤ x3 ∧ x3 < s.2 6 1) ∧ f11 = figs (s.2 6 0) (s.2 6 1) a1 (s.2 11) ∧ x2 = hor (s.2 6 0) (fun i => dig (s.2 6 0) (s.2 6 1) a1 (s.2 6 1 - 1 - i)) (s.2 6 1 - 1 - x3).toNat) (c_1 : ¬ x3 < 0) (o_2 : (0 ≤ x3 ∧ x3 < 8)) : lex3 0 0 (((i32 (x3 + (-1))) + 1).toNat) 0 0 ((x3 + 1).toNat) := by
  obtain ⟨ht, h0, h1⟩ := hp
  have hL := tOK_L ht
  have hB := tOK_B ht
  have hN := tOK_N ht
  have hD := dig_in' (x := a1) ht
  (try unfold lex3)
  (try simp only [bI_0, bI_n, Classical.not_not] at *)
  (try simp (disch := omega) only [i32_id] at *)
  first | done | omega | ((repeat' (with_reducible apply And.intro)) <;> first | assumption | rfl | omega | (rw [hI.2.2, show (s.2 6 1 - 1 - x3).toNat = (s.2 6 1).toNat by omega]; rfl) | (rw [hI.2.2, hI.2.1, figs_at (by omega) (by omega)]; exact hor_down ht hD (by omega) (by omega)) | (rw [show (s.2 6 1 - 1 - (s.2 6 1 - 1)).toNat = 0 by omega]; rfl) | grind [upI])
theorem vX3_turned_6 (s : MS) (a1 : Int) (hp : tOK (s.2 6) ∧ 0 ≤ a1 ∧ a1 ≤ 100000) : (tOK (s.2 6) ∧ 0 ≤ a1 ∧ a1 ≤ 100000) := by
  obtain ⟨ht, h0, h1⟩ := hp
  have hL := tOK_L ht
  have hB := tOK_B ht
  have hN := tOK_N ht
  have hD := dig_in' (x := a1) ht
  (try unfold lex3)
  (try simp only [bI_0, bI_n, Classical.not_not] at *)
  (try simp (disch := omega) only [i32_id] at *)
  first | done | omega | ((repeat' (with_reducible apply And.intro)) <;> first | assumption | rfl | omega | (rw [hI.2.2, show (s.2 6 1 - 1 - x3).toNat = (s.2 6 1).toNat by omega]; rfl) | (rw [hI.2.2, hI.2.1, figs_at (by omega) (by omega)]; exact hor_down ht hD (by omega) (by omega)) | (rw [show (s.2 6 1 - 1 - (s.2 6 1 - 1)).toNat = 0 by omega]; rfl) | grind [upI])
theorem vX3_turned_7 (s : MS) (a1 : Int) (hp : tOK (s.2 6) ∧ 0 ≤ a1 ∧ a1 ≤ 100000) (o_1 : (tOK (s.2 6) ∧ 0 ≤ a1 ∧ a1 ≤ 100000)) : (-1 ≤ (i32 ((s.2 6 1) - 1)) ∧ (i32 ((s.2 6 1) - 1)) < s.2 6 1) ∧ (figs ((s.2 6) 0) ((s.2 6) 1) a1 (s.2 11)) = figs (s.2 6 0) (s.2 6 1) a1 (s.2 11) ∧ (0 : Int) = hor (s.2 6 0) (fun i => dig (s.2 6 0) (s.2 6 1) a1 (s.2 6 1 - 1 - i)) (s.2 6 1 - 1 - (i32 ((s.2 6 1) - 1))).toNat := by
  obtain ⟨ht, h0, h1⟩ := hp
  have hL := tOK_L ht
  have hB := tOK_B ht
  have hN := tOK_N ht
  have hD := dig_in' (x := a1) ht
  (try unfold lex3)
  (try simp only [bI_0, bI_n, Classical.not_not] at *)
  (try simp (disch := omega) only [i32_id] at *)
  first | done | omega | ((repeat' (with_reducible apply And.intro)) <;> first | assumption | rfl | omega | (rw [hI.2.2, show (s.2 6 1 - 1 - x3).toNat = (s.2 6 1).toNat by omega]; rfl) | (rw [hI.2.2, hI.2.1, figs_at (by omega) (by omega)]; exact hor_down ht hD (by omega) (by omega)) | (rw [show (s.2 6 1 - 1 - (s.2 6 1 - 1)).toNat = 0 by omega]; rfl) | grind [upI])
theorem allX3_turned (b : AH) (s : MS) (a1 : Int) (hp : tOK (s.2 6) ∧ 0 ≤ a1 ∧ a1 ≤ 100000) : ∀ m1 m2 m3 : Nat, (∀ (x2 : Int) (x3 : Int) (f11 : Int → Int), m1 = 0 → m2 = 0 → m3 = ((x3 + 1).toNat) → ((-1 ≤ x3 ∧ x3 < s.2 6 1) ∧ f11 = figs (s.2 6 0) (s.2 6 1) a1 (s.2 11) ∧ x2 = hor (s.2 6 0) (fun i => dig (s.2 6 0) (s.2 6 1) a1 (s.2 6 1 - 1 - i)) (s.2 6 1 - 1 - x3).toNat) → HX3_turned_16 (QX3_turned s a1) b s x2 x3 f11) := by
  refine lex3_ind ?_
  intro m1 m2 m3 ih
  rintro x2 x3 f11 rfl rfl rfl hI
  refine bX3_turned_16 b s x2 x3 f11 ?_
  refine ⟨fun c_1 => ?_, fun c_1 => ?_⟩
  · exact ⟨(rI_c (vX3_turned_2 s a1 hp x2 x3 f11 hI c_1)), (sA_c rfl (vX3_turned_1 s a1 hp x2 x3 f11 hI c_1))⟩
  · have o_2 : (0 ≤ x3 ∧ x3 < 8) := (vX3_turned_3 s a1 hp x2 x3 f11 hI c_1)
    refine ⟨o_2, ?_⟩
    exact (ih _ _ _ (vX3_turned_5 s a1 hp x2 x3 f11 hI c_1 o_2)) (i32 ((i32 (x2 * (s.2 6 0))) + (f11 x3))) (i32 (x3 + (-1))) f11 rfl rfl rfl (vX3_turned_4 s a1 hp x2 x3 f11 hI c_1 o_2)
theorem ctX3_turned (b : AH) (s : MS) (a1 : Int) (hp : tOK (s.2 6) ∧ 0 ≤ a1 ∧ a1 ≤ 100000) : MC mX3_turned 2 b s [vI a1] (QX3_turned s a1) := by
  refine MC.of (by decide) rfl (Nat.le_of_ble_eq_true rfl) (JW.steq (s2 := sA s 11 (s.2 11)) (by simp only [sA_id, sS_id]) ?_)
  refine bX3_turned_0 b s a1 (s.2 11) ?_
  have o_1 : (tOK (s.2 6) ∧ 0 ≤ a1 ∧ a1 ≤ 100000) := (vX3_turned_6 s a1 hp)
  refine ⟨o_1, ?_⟩
  exact (allX3_turned b s a1 hp _ _ _) 0 (i32 ((s.2 6 1) - 1)) (figs ((s.2 6) 0) ((s.2 6) 1) a1 (s.2 11)) rfl rfl rfl (vX3_turned_7 s a1 hp o_1)
def HX3_moved_0 (Q : Option AV → MS → Prop) (b : AH) (s : MS) (x1 : Int) (f11 : Int → Int) : Prop := MW mX3_moved 2 Q b 0 [(0, vR 351), (1, vI x1)] [] (sA s 11 f11)
def HX3_moved_9 (Q : Option AV → MS → Prop) (b : AH) (s : MS) (x2 : Int) (x3 : Int) (f11 : Int → Int) : Prop := MW mX3_moved 2 Q b 9 [(0, vR 351), (2, vI x2), (3, vI x3)] [] (sA s 11 f11)
theorem bX3_moved_0 {Q : Option AV → MS → Prop} (b : AH) (s : MS) (x1 : Int) (f11 : Int → Int) (K : (tOK (s.2 6) ∧ 0 ≤ x1 ∧ x1 ≤ 100000) ∧ (HX3_moved_9 Q b s 0 1 (figs ((s.2 6) 0) ((s.2 6) 1) x1 f11))) : HX3_moved_0 Q b s x1 f11 := by
  refine JW.aload_n dX3_moved_0 rfl ?_
  refine JW.iload_n dX3_moved_1 rfl ?_
  obtain ⟨o_1, K⟩ := K
  refine JW.mcall (As := [vI x1]) dX3_moved_2 vX3_figures rfl q1810 (ctX3_figures b (sA s 11 f11) x1 o_1) (Nat.le_of_ble_eq_true rfl) rfl (Nat.le_of_ble_eq_true rfl) ?_
  rintro _ _ ⟨rfl, rfl⟩
  refine JW.steq (s2 := sA s 11 (figs ((s.2 6) 0) ((s.2 6) 1) x1 f11)) (by simp only [sA_A, sS_S, sA_S, sA_lt, sS_lt, Nat.reduceLT, id_eq] <;> rfl) ?_
  refine JW.iconst dX3_moved_5 rfl ?_
  refine JW.istore_n (ls' := [(0, vR 351), (1, vI x1), (2, vI 0)]) dX3_moved_6 (Nat.le_of_ble_eq_true rfl) rfl ?_
  refine JW.iconst dX3_moved_7 rfl ?_
  refine JW.istore_n (ls' := [(0, vR 351), (1, vI x1), (2, vI 0), (3, vI 1)]) dX3_moved_8 (Nat.le_of_ble_eq_true rfl) rfl ?_
  exact JW.pick [0, 2, 3] rfl K
theorem bX3_moved_9 {Q : Option AV → MS → Prop} (b : AH) (s : MS) (x2 : Int) (x3 : Int) (f11 : Int → Int) (K : ((s.2 6 1) < x3 → Q (some (vI x2)) (sA s 11 f11)) ∧ (¬ (s.2 6 1) < x3 → (s.2 6 1) ≠ 0 ∧ ((0 ≤ (i32 (Int.tmod x3 (s.2 6 1))) ∧ (i32 (Int.tmod x3 (s.2 6 1))) < 8) ∧ (HX3_moved_9 Q b s (i32 ((i32 (x2 * (s.2 6 0))) + (f11 (i32 (Int.tmod x3 (s.2 6 1)))))) (i32 (x3 + 1)) f11)))) : HX3_moved_9 Q b s x2 x3 f11 := by
  refine JW.iload_n dX3_moved_9 rfl ?_
  refine JW.aload_n dX3_moved_10 rfl ?_
  refine JW.mget (v := vR 358) dX3_moved_11 fX3_34 rfl ?_
  refine JW.iconst dX3_moved_14 rfl ?_
  refine JW.mald 6 (x := (s.2 6 1)) dX3_moved_15 (Nat.le_of_ble_eq_true rfl) rfl (by decide) (by decide) rfl ?_
  refine JW.icmp_gt (tgt := 48) dX3_moved_16 rfl (fun c_1 => ?_) (fun c_1 => ?_)
  · have K := K.1 c_1
    refine JW.iload_n dX3_moved_48 rfl ?_
    exact JW.ireturn dX3_moved_49 rfl rfl ⟨_, rfl, K⟩
  · have K := K.2 c_1
    refine JW.iload_n dX3_moved_19 rfl ?_
    refine JW.aload_n dX3_moved_20 rfl ?_
    refine JW.mget (v := vR 358) dX3_moved_21 fX3_34 rfl ?_
    refine JW.iconst dX3_moved_24 rfl ?_
    refine JW.mald 6 (x := (s.2 6 0)) dX3_moved_25 (Nat.le_of_ble_eq_true rfl) rfl (by decide) (by decide) rfl ?_
    refine JW.imul dX3_moved_26 ?_
    refine JW.aload_n dX3_moved_27 rfl ?_
    refine JW.mget (v := vR 363) dX3_moved_28 fX3_50 rfl ?_
    refine JW.iload_n dX3_moved_31 rfl ?_
    refine JW.aload_n dX3_moved_32 rfl ?_
    refine JW.mget (v := vR 358) dX3_moved_33 fX3_34 rfl ?_
    refine JW.iconst dX3_moved_36 rfl ?_
    refine JW.mald 6 (x := (s.2 6 1)) dX3_moved_37 (Nat.le_of_ble_eq_true rfl) rfl (by decide) (by decide) rfl ?_
    obtain ⟨o_2, K⟩ := K
    refine JW.irem dX3_moved_38 o_2 ?_
    obtain ⟨o_3, K⟩ := K
    refine JW.mald 11 (x := (f11 (i32 (Int.tmod x3 (s.2 6 1))))) dX3_moved_39 (Nat.le_of_ble_eq_true rfl) rfl o_3.1 o_3.2 rfl ?_
    refine JW.iadd dX3_moved_40 ?_
    refine JW.istore_n (ls' := [(0, vR 351), (2, vI (i32 ((i32 (x2 * (s.2 6 0))) + (f11 (i32 (Int.tmod x3 (s.2 6 1))))))), (3, vI x3)]) dX3_moved_41 (Nat.le_of_ble_eq_true rfl) rfl ?_
    refine JW.iinc (ls' := [(0, vR 351), (2, vI (i32 ((i32 (x2 * (s.2 6 0))) + (f11 (i32 (Int.tmod x3 (s.2 6 1))))))), (3, vI (i32 (x3 + 1)))]) dX3_moved_42 (Nat.le_of_ble_eq_true rfl) rfl rfl ?_
    refine JW.goto (tgt := 9) dX3_moved_45 rfl ?_
    exact JW.pick [0, 2, 3] rfl K
def QX3_moved (s : MS) (a1 : Int) : Option AV → MS → Prop := fun v s' => v = some (vI (rot ((s.2 6) 0) ((s.2 6) 1) a1)) ∧ s' = sA s 11 (figs ((s.2 6) 0) ((s.2 6) 1) a1 (s.2 11))
theorem vX3_moved_1 (s : MS) (a1 : Int) (hp : tOK (s.2 6) ∧ 0 ≤ a1 ∧ a1 ≤ 100000) (x2 : Int) (x3 : Int) (f11 : Int → Int) (hI : (1 ≤ x3 ∧ x3 ≤ s.2 6 1 + 1) ∧ f11 = figs (s.2 6 0) (s.2 6 1) a1 (s.2 11) ∧ x2 = hor (s.2 6 0) (fun i => dig (s.2 6 0) (s.2 6 1) a1 ((i + 1) % s.2 6 1)) (x3 - 1).toNat) (c_1 : (s.2 6 1) < x3) : f11 = (figs ((s.2 6) 0) ((s.2 6) 1) a1 (s.2 11)) := by
  obtain ⟨ht, h0, h1⟩ := hp
  have hL := tOK_L ht
  have hB := tOK_B ht
  have hN := tOK_N ht
  have hD := dig_in' (x := a1) ht
  (try unfold lex3)
  (try simp only [bI_0, bI_n, Classical.not_not] at *)
  (try simp (disch := omega) only [i32_id] at *)
  first | done | omega | ((repeat' (with_reducible apply And.intro)) <;> first | assumption | rfl | omega | (rw [hI.2.2, show x3 - 1 = s.2 6 1 by omega]; rfl) | grind [upI])
theorem vX3_moved_2 (s : MS) (a1 : Int) (hp : tOK (s.2 6) ∧ 0 ≤ a1 ∧ a1 ≤ 100000) (x2 : Int) (x3 : Int) (f11 : Int → Int) (hI : (1 ≤ x3 ∧ x3 ≤ s.2 6 1 + 1) ∧ f11 = figs (s.2 6 0) (s.2 6 1) a1 (s.2 11) ∧ x2 = hor (s.2 6 0) (fun i => dig (s.2 6 0) (s.2 6 1) a1 ((i + 1) % s.2 6 1)) (x3 - 1).toNat) (c_1 : (s.2 6 1) < x3) : x2 = (rot ((s.2 6) 0) ((s.2 6) 1) a1) := by
  obtain ⟨ht, h0, h1⟩ := hp
  have hL := tOK_L ht
  have hB := tOK_B ht
  have hN := tOK_N ht
  have hD := dig_in' (x := a1) ht
  (try unfold lex3)
  (try simp only [bI_0, bI_n, Classical.not_not] at *)
  (try simp (disch := omega) only [i32_id] at *)
  first | done | omega | ((repeat' (with_reducible apply And.intro)) <;> first | assumption | rfl | omega | (rw [hI.2.2, show x3 - 1 = s.2 6 1 by omega]; rfl) | grind [upI])
theorem vX3_moved_3 (s : MS) (a1 : Int) (hp : tOK (s.2 6) ∧ 0 ≤ a1 ∧ a1 ≤ 100000) (x2 : Int) (x3 : Int) (f11 : Int → Int) (hI : (1 ≤ x3 ∧ x3 ≤ s.2 6 1 + 1) ∧ f11 = figs (s.2 6 0) (s.2 6 1) a1 (s.2 11) ∧ x2 = hor (s.2 6 0) (fun i => dig (s.2 6 0) (s.2 6 1) a1 ((i + 1) % s.2 6 1)) (x3 - 1).toNat) (c_1 : ¬ (s.2 6 1) < x3) : (s.2 6 1) ≠ 0 := by
  obtain ⟨ht, h0, h1⟩ := hp
  have hL := tOK_L ht
  have hB := tOK_B ht
  have hN := tOK_N ht
  have hD := dig_in' (x := a1) ht
  (try unfold lex3)
  (try simp only [bI_0, bI_n, Classical.not_not] at *)
  (try simp (disch := omega) only [i32_id] at *)
  first | done | omega | ((repeat' (with_reducible apply And.intro)) <;> first | assumption | rfl | omega | (rw [hI.2.2, show x3 - 1 = s.2 6 1 by omega]; rfl) | grind [upI])
theorem vX3_moved_4 (s : MS) (a1 : Int) (hp : tOK (s.2 6) ∧ 0 ≤ a1 ∧ a1 ≤ 100000) (x2 : Int) (x3 : Int) (f11 : Int → Int) (hI : (1 ≤ x3 ∧ x3 ≤ s.2 6 1 + 1) ∧ f11 = figs (s.2 6 0) (s.2 6 1) a1 (s.2 11) ∧ x2 = hor (s.2 6 0) (fun i => dig (s.2 6 0) (s.2 6 1) a1 ((i + 1) % s.2 6 1)) (x3 - 1).toNat) (c_1 : ¬ (s.2 6 1) < x3) (o_2 : (s.2 6 1) ≠ 0) : (0 ≤ (i32 (Int.tmod x3 (s.2 6 1))) ∧ (i32 (Int.tmod x3 (s.2 6 1))) < 8) := by
  obtain ⟨ht, h0, h1⟩ := hp
  have hL := tOK_L ht
  have hB := tOK_B ht
  have hN := tOK_N ht
  have hD := dig_in' (x := a1) ht
  rw [(i32_m (k := x3) (L := s.2 6 1) (by omega) (by omega) (by omega)).1]
  have := i32_m (k := x3) (L := s.2 6 1) (by omega) (by omega) (by omega)
  omega
theorem vX3_moved_5 (s : MS) (a1 : Int) (hp : tOK (s.2 6) ∧ 0 ≤ a1 ∧ a1 ≤ 100000) (x2 : Int) (x3 : Int) (f11 : Int → Int) (hI : (1 ≤ x3 ∧ x3 ≤ s.2 6 1 + 1) ∧ f11 = figs (s.2 6 0) (s.2 6 1) a1 (s.2 11) ∧ x2 = hor (s.2 6 0) (fun i => dig (s.2 6 0) (s.2 6 1) a1 ((i + 1) % s.2 6 1)) (x3 - 1).toNat) (c_1 : ¬ (s.2 6 1) < x3) (o_2 : (s.2 6 1) ≠ 0) (o_3 : (0 ≤ (i32 (Int.tmod x3 (s.2 6 1))) ∧ (i32 (Int.tmod x3 (s.2 6 1))) < 8)) : (1 ≤ (i32 (x3 + 1)) ∧ (i32 (x3 + 1)) ≤ s.2 6 1 + 1) ∧ f11 = figs (s.2 6 0) (s.2 6 1) a1 (s.2 11) ∧ (i32 ((i32 (x2 * (s.2 6 0))) + (f11 (i32 (Int.tmod x3 (s.2 6 1)))))) = hor (s.2 6 0) (fun i => dig (s.2 6 0) (s.2 6 1) a1 ((i + 1) % s.2 6 1)) ((i32 (x3 + 1)) - 1).toNat := by
  obtain ⟨ht, h0, h1⟩ := hp
  have hL := tOK_L ht
  have hB := tOK_B ht
  have hN := tOK_N ht
  have hD := dig_in' (x := a1) ht
  have hm := i32_m (k := x3) (L := s.2 6 1) (by omega) (by omega) (by omega)
  rw [i32_id (x := x3 + 1) (by omega) (by omega), hm.1]
  refine ⟨by omega, hI.2.1, ?_⟩
  rw [hI.2.2, hI.2.1, figs_at hm.2.1 hm.2.2]
  exact hor_rot ht hD (by omega) (by omega)
theorem vX3_moved_6 (s : MS) (a1 : Int) (hp : tOK (s.2 6) ∧ 0 ≤ a1 ∧ a1 ≤ 100000) (x2 : Int) (x3 : Int) (f11 : Int → Int) (hI : (1 ≤ x3 ∧ x3 ≤ s.2 6 1 + 1) ∧ f11 = figs (s.2 6 0) (s.2 6 1) a1 (s.2 11) ∧ x2 = hor (s.2 6 0) (fun i => dig (s.2 6 0) (s.2 6 1) a1 ((i + 1) % s.2 6 1)) (x3 - 1).toNat) (c_1 : ¬ (s.2 6 1) < x3) (o_2 : (s.2 6 1) ≠ 0) (o_3 : (0 ≤ (i32 (Int.tmod x3 (s.2 6 1))) ∧ (i32 (Int.tmod x3 (s.2 6 1))) < 8)) : lex3 0 0 ((s.2 6 1 + 1 - (i32 (x3 + 1))).toNat) 0 0 ((s.2 6 1 + 1 - x3).toNat) := by
  obtain ⟨ht, h0, h1⟩ := hp
  have hL := tOK_L ht
  have hB := tOK_B ht
  have hN := tOK_N ht
  have hD := dig_in' (x := a1) ht
  (try unfold lex3)
  (try simp only [bI_0, bI_n, Classical.not_not] at *)
  (try simp (disch := omega) only [i32_id] at *)
  first | done | omega | ((repeat' (with_reducible apply And.intro)) <;> first | assumption | rfl | omega | (rw [hI.2.2, show x3 - 1 = s.2 6 1 by omega]; rfl) | grind [upI])
theorem vX3_moved_7 (s : MS) (a1 : Int) (hp : tOK (s.2 6) ∧ 0 ≤ a1 ∧ a1 ≤ 100000) : (tOK (s.2 6) ∧ 0 ≤ a1 ∧ a1 ≤ 100000) := by
  obtain ⟨ht, h0, h1⟩ := hp
  have hL := tOK_L ht
  have hB := tOK_B ht
  have hN := tOK_N ht
  have hD := dig_in' (x := a1) ht
  (try unfold lex3)
  (try simp only [bI_0, bI_n, Classical.not_not] at *)
  (try simp (disch := omega) only [i32_id] at *)
  first | done | omega | ((repeat' (with_reducible apply And.intro)) <;> first | assumption | rfl | omega | (rw [hI.2.2, show x3 - 1 = s.2 6 1 by omega]; rfl) | grind [upI])
theorem vX3_moved_8 (s : MS) (a1 : Int) (hp : tOK (s.2 6) ∧ 0 ≤ a1 ∧ a1 ≤ 100000) (o_1 : (tOK (s.2 6) ∧ 0 ≤ a1 ∧ a1 ≤ 100000)) : (1 ≤ (1 : Int) ∧ (1 : Int) ≤ s.2 6 1 + 1) ∧ (figs ((s.2 6) 0) ((s.2 6) 1) a1 (s.2 11)) = figs (s.2 6 0) (s.2 6 1) a1 (s.2 11) ∧ (0 : Int) = hor (s.2 6 0) (fun i => dig (s.2 6 0) (s.2 6 1) a1 ((i + 1) % s.2 6 1)) ((1 : Int) - 1).toNat := by
  obtain ⟨ht, h0, h1⟩ := hp
  have hL := tOK_L ht
  have hB := tOK_B ht
  have hN := tOK_N ht
  have hD := dig_in' (x := a1) ht
  (try unfold lex3)
  (try simp only [bI_0, bI_n, Classical.not_not] at *)
  (try simp (disch := omega) only [i32_id] at *)
  first | done | omega | ((repeat' (with_reducible apply And.intro)) <;> first | assumption | rfl | omega | (rw [hI.2.2, show x3 - 1 = s.2 6 1 by omega]; rfl) | grind [upI])
theorem allX3_moved (b : AH) (s : MS) (a1 : Int) (hp : tOK (s.2 6) ∧ 0 ≤ a1 ∧ a1 ≤ 100000) : ∀ m1 m2 m3 : Nat, (∀ (x2 : Int) (x3 : Int) (f11 : Int → Int), m1 = 0 → m2 = 0 → m3 = ((s.2 6 1 + 1 - x3).toNat) → ((1 ≤ x3 ∧ x3 ≤ s.2 6 1 + 1) ∧ f11 = figs (s.2 6 0) (s.2 6 1) a1 (s.2 11) ∧ x2 = hor (s.2 6 0) (fun i => dig (s.2 6 0) (s.2 6 1) a1 ((i + 1) % s.2 6 1)) (x3 - 1).toNat) → HX3_moved_9 (QX3_moved s a1) b s x2 x3 f11) := by
  refine lex3_ind ?_
  intro m1 m2 m3 ih
  rintro x2 x3 f11 rfl rfl rfl hI
  refine bX3_moved_9 b s x2 x3 f11 ?_
  refine ⟨fun c_1 => ?_, fun c_1 => ?_⟩
  · exact ⟨(rI_c (vX3_moved_2 s a1 hp x2 x3 f11 hI c_1)), (sA_c rfl (vX3_moved_1 s a1 hp x2 x3 f11 hI c_1))⟩
  · have o_2 : (s.2 6 1) ≠ 0 := (vX3_moved_3 s a1 hp x2 x3 f11 hI c_1)
    refine ⟨o_2, ?_⟩
    have o_3 : (0 ≤ (i32 (Int.tmod x3 (s.2 6 1))) ∧ (i32 (Int.tmod x3 (s.2 6 1))) < 8) := (vX3_moved_4 s a1 hp x2 x3 f11 hI c_1 o_2)
    refine ⟨o_3, ?_⟩
    exact (ih _ _ _ (vX3_moved_6 s a1 hp x2 x3 f11 hI c_1 o_2 o_3)) (i32 ((i32 (x2 * (s.2 6 0))) + (f11 (i32 (Int.tmod x3 (s.2 6 1)))))) (i32 (x3 + 1)) f11 rfl rfl rfl (vX3_moved_5 s a1 hp x2 x3 f11 hI c_1 o_2 o_3)
theorem ctX3_moved (b : AH) (s : MS) (a1 : Int) (hp : tOK (s.2 6) ∧ 0 ≤ a1 ∧ a1 ≤ 100000) : MC mX3_moved 2 b s [vI a1] (QX3_moved s a1) := by
  refine MC.of (by decide) rfl (Nat.le_of_ble_eq_true rfl) (JW.steq (s2 := sA s 11 (s.2 11)) (by simp only [sA_id, sS_id]) ?_)
  refine bX3_moved_0 b s a1 (s.2 11) ?_
  have o_1 : (tOK (s.2 6) ∧ 0 ≤ a1 ∧ a1 ≤ 100000) := (vX3_moved_7 s a1 hp)
  refine ⟨o_1, ?_⟩
  exact (allX3_moved b s a1 hp _ _ _) 0 1 (figs ((s.2 6) 0) ((s.2 6) 1) a1 (s.2 11)) rfl rfl rfl (vX3_moved_8 s a1 hp o_1)
def HX3_powers_0 (Q : Option AV → MS → Prop) (b : AH) (s : MS) (x1 : Int) (x2 : Int) (f11 : Int → Int) : Prop := MW mX3_powers 2 Q b 0 [(0, vR 351), (1, vI x1), (2, vI x2)] [] (sA s 11 f11)
def HX3_powers_10 (Q : Option AV → MS → Prop) (b : AH) (s : MS) (x2 : Int) (x3 : Int) (x4 : Int) (f11 : Int → Int) : Prop := MW mX3_powers 2 Q b 10 [(0, vR 351), (2, vI x2), (3, vI x3), (4, vI x4)] [] (sA s 11 f11)
theorem bX3_powers_0 {Q : Option AV → MS → Prop} (b : AH) (s : MS) (x1 : Int) (x2 : Int) (f11 : Int → Int) (K : (tOK (s.2 6) ∧ 0 ≤ x1 ∧ x1 ≤ 100000) ∧ (HX3_powers_10 Q b s x2 0 0 (figs ((s.2 6) 0) ((s.2 6) 1) x1 f11))) : HX3_powers_0 Q b s x1 x2 f11 := by
  refine JW.aload_n dX3_powers_0 rfl ?_
  refine JW.iload_n dX3_powers_1 rfl ?_
  obtain ⟨o_1, K⟩ := K
  refine JW.mcall (As := [vI x1]) dX3_powers_2 vX3_figures rfl q1810 (ctX3_figures b (sA s 11 f11) x1 o_1) (Nat.le_of_ble_eq_true rfl) rfl (Nat.le_of_ble_eq_true rfl) ?_
  rintro _ _ ⟨rfl, rfl⟩
  refine JW.steq (s2 := sA s 11 (figs ((s.2 6) 0) ((s.2 6) 1) x1 f11)) (by simp only [sA_A, sS_S, sA_S, sA_lt, sS_lt, Nat.reduceLT, id_eq] <;> rfl) ?_
  refine JW.iconst dX3_powers_5 rfl ?_
  refine JW.istore_n (ls' := [(0, vR 351), (1, vI x1), (2, vI x2), (3, vI 0)]) dX3_powers_6 (Nat.le_of_ble_eq_true rfl) rfl ?_
  refine JW.iconst dX3_powers_7 rfl ?_
  refine JW.istore (ls' := [(0, vR 351), (1, vI x1), (2, vI x2), (3, vI 0), (4, vI 0)]) dX3_powers_8 (Nat.le_of_ble_eq_true rfl) rfl ?_
  exact JW.pick [0, 2, 3, 4] rfl K
theorem bX3_powers_10 {Q : Option AV → MS → Prop} (b : AH) (s : MS) (x2 : Int) (x3 : Int) (x4 : Int) (f11 : Int → Int) (K : ((s.2 6 1) ≤ x4 → Q (some (vI x3)) (sA s 11 f11)) ∧ (¬ (s.2 6 1) ≤ x4 → (¬ x2 = 1 → (¬ x2 = 2 → (0 ≤ x4 ∧ x4 < 8) ∧ (HX3_powers_10 Q b s x2 (i32 (x3 + (i32 ((i32 ((f11 x4) * (f11 x4))) * (f11 x4))))) (i32 (x4 + 1)) f11)) ∧ (x2 = 2 → (0 ≤ x4 ∧ x4 < 8) ∧ (HX3_powers_10 Q b s x2 (i32 (x3 + (i32 ((f11 x4) * (f11 x4))))) (i32 (x4 + 1)) f11))) ∧ (x2 = 1 → (0 ≤ x4 ∧ x4 < 8) ∧ (HX3_powers_10 Q b s x2 (i32 (x3 + (f11 x4))) (i32 (x4 + 1)) f11)))) : HX3_powers_10 Q b s x2 x3 x4 f11 := by
  refine JW.iload dX3_powers_10 rfl ?_
  refine JW.aload_n dX3_powers_12 rfl ?_
  refine JW.mget (v := vR 358) dX3_powers_13 fX3_34 rfl ?_
  refine JW.iconst dX3_powers_16 rfl ?_
  refine JW.mald 6 (x := (s.2 6 1)) dX3_powers_17 (Nat.le_of_ble_eq_true rfl) rfl (by decide) (by decide) rfl ?_
  refine JW.icmp_ge (tgt := 91) dX3_powers_18 rfl (fun c_1 => ?_) (fun c_1 => ?_)
  · have K := K.1 c_1
    refine JW.iload_n dX3_powers_91 rfl ?_
    exact JW.ireturn dX3_powers_92 rfl rfl ⟨_, rfl, K⟩
  · have K := K.2 c_1
    refine JW.iload_n dX3_powers_21 rfl ?_
    refine JW.iload_n dX3_powers_22 rfl ?_
    refine JW.iconst dX3_powers_23 rfl ?_
    refine JW.icmp_ne (tgt := 37) dX3_powers_24 rfl (fun c_2 => ?_) (fun c_2 => ?_)
    · have K := K.1 c_2
      refine JW.iload_n dX3_powers_37 rfl ?_
      refine JW.iconst dX3_powers_38 rfl ?_
      refine JW.icmp_ne (tgt := 60) dX3_powers_39 rfl (fun c_3 => ?_) (fun c_3 => ?_)
      · have K := K.1 c_3
        refine JW.aload_n dX3_powers_60 rfl ?_
        refine JW.mget (v := vR 363) dX3_powers_61 fX3_50 rfl ?_
        refine JW.iload dX3_powers_64 rfl ?_
        obtain ⟨o_4, K⟩ := K
        refine JW.mald 11 (x := (f11 x4)) dX3_powers_66 (Nat.le_of_ble_eq_true rfl) rfl o_4.1 o_4.2 rfl ?_
        refine JW.aload_n dX3_powers_67 rfl ?_
        refine JW.mget (v := vR 363) dX3_powers_68 fX3_50 rfl ?_
        refine JW.iload dX3_powers_71 rfl ?_
        refine JW.mald 11 (x := (f11 x4)) dX3_powers_73 (Nat.le_of_ble_eq_true rfl) rfl o_4.1 o_4.2 rfl ?_
        refine JW.imul dX3_powers_74 ?_
        refine JW.aload_n dX3_powers_75 rfl ?_
        refine JW.mget (v := vR 363) dX3_powers_76 fX3_50 rfl ?_
        refine JW.iload dX3_powers_79 rfl ?_
        refine JW.mald 11 (x := (f11 x4)) dX3_powers_81 (Nat.le_of_ble_eq_true rfl) rfl o_4.1 o_4.2 rfl ?_
        refine JW.imul dX3_powers_82 ?_
        refine JW.iadd dX3_powers_83 ?_
        refine JW.istore_n (ls' := [(0, vR 351), (2, vI x2), (3, vI (i32 (x3 + (i32 ((i32 ((f11 x4) * (f11 x4))) * (f11 x4)))))), (4, vI x4)]) dX3_powers_84 (Nat.le_of_ble_eq_true rfl) rfl ?_
        refine JW.iinc (ls' := [(0, vR 351), (2, vI x2), (3, vI (i32 (x3 + (i32 ((i32 ((f11 x4) * (f11 x4))) * (f11 x4)))))), (4, vI (i32 (x4 + 1)))]) dX3_powers_85 (Nat.le_of_ble_eq_true rfl) rfl rfl ?_
        refine JW.goto (tgt := 10) dX3_powers_88 rfl ?_
        exact JW.pick [0, 2, 3, 4] rfl K
      · have K := K.2 c_3
        refine JW.aload_n dX3_powers_42 rfl ?_
        refine JW.mget (v := vR 363) dX3_powers_43 fX3_50 rfl ?_
        refine JW.iload dX3_powers_46 rfl ?_
        obtain ⟨o_5, K⟩ := K
        refine JW.mald 11 (x := (f11 x4)) dX3_powers_48 (Nat.le_of_ble_eq_true rfl) rfl o_5.1 o_5.2 rfl ?_
        refine JW.aload_n dX3_powers_49 rfl ?_
        refine JW.mget (v := vR 363) dX3_powers_50 fX3_50 rfl ?_
        refine JW.iload dX3_powers_53 rfl ?_
        refine JW.mald 11 (x := (f11 x4)) dX3_powers_55 (Nat.le_of_ble_eq_true rfl) rfl o_5.1 o_5.2 rfl ?_
        refine JW.imul dX3_powers_56 ?_
        refine JW.goto (tgt := 83) dX3_powers_57 rfl ?_
        refine JW.iadd dX3_powers_83 ?_
        refine JW.istore_n (ls' := [(0, vR 351), (2, vI x2), (3, vI (i32 (x3 + (i32 ((f11 x4) * (f11 x4)))))), (4, vI x4)]) dX3_powers_84 (Nat.le_of_ble_eq_true rfl) rfl ?_
        refine JW.iinc (ls' := [(0, vR 351), (2, vI x2), (3, vI (i32 (x3 + (i32 ((f11 x4) * (f11 x4)))))), (4, vI (i32 (x4 + 1)))]) dX3_powers_85 (Nat.le_of_ble_eq_true rfl) rfl rfl ?_
        refine JW.goto (tgt := 10) dX3_powers_88 rfl ?_
        exact JW.pick [0, 2, 3, 4] rfl K
    · have K := K.2 c_2
      refine JW.aload_n dX3_powers_27 rfl ?_
      refine JW.mget (v := vR 363) dX3_powers_28 fX3_50 rfl ?_
      refine JW.iload dX3_powers_31 rfl ?_
      obtain ⟨o_6, K⟩ := K
      refine JW.mald 11 (x := (f11 x4)) dX3_powers_33 (Nat.le_of_ble_eq_true rfl) rfl o_6.1 o_6.2 rfl ?_
      refine JW.goto (tgt := 83) dX3_powers_34 rfl ?_
      refine JW.iadd dX3_powers_83 ?_
      refine JW.istore_n (ls' := [(0, vR 351), (2, vI x2), (3, vI (i32 (x3 + (f11 x4)))), (4, vI x4)]) dX3_powers_84 (Nat.le_of_ble_eq_true rfl) rfl ?_
      refine JW.iinc (ls' := [(0, vR 351), (2, vI x2), (3, vI (i32 (x3 + (f11 x4)))), (4, vI (i32 (x4 + 1)))]) dX3_powers_85 (Nat.le_of_ble_eq_true rfl) rfl rfl ?_
      refine JW.goto (tgt := 10) dX3_powers_88 rfl ?_
      exact JW.pick [0, 2, 3, 4] rfl K
def QX3_powers (s : MS) (a1 : Int) (a2 : Int) : Option AV → MS → Prop := fun v s' => v = some (vI (psum (a2).toNat (dig ((s.2 6) 0) ((s.2 6) 1) a1) ((s.2 6) 1).toNat)) ∧ s' = sA s 11 (figs ((s.2 6) 0) ((s.2 6) 1) a1 (s.2 11))
theorem vX3_powers_1 (s : MS) (a1 : Int) (a2 : Int) (hp : tOK (s.2 6) ∧ 0 ≤ a1 ∧ a1 ≤ 100000 ∧ (a2 = 1 ∨ a2 = 2 ∨ a2 = 3)) (x2 : Int) (x3 : Int) (x4 : Int) (f11 : Int → Int) (hI : (0 ≤ x4 ∧ x4 ≤ s.2 6 1) ∧ x2 = a2 ∧ f11 = figs (s.2 6 0) (s.2 6 1) a1 (s.2 11) ∧ x3 = psum a2.toNat (dig (s.2 6 0) (s.2 6 1) a1) x4.toNat) (c_1 : (s.2 6 1) ≤ x4) : f11 = (figs ((s.2 6) 0) ((s.2 6) 1) a1 (s.2 11)) := by
  obtain ⟨ht, h0, h1, hn⟩ := hp
  have hL := tOK_L ht
  have hB := tOK_B ht
  have hN := tOK_N ht
  have hD := dig_in' (x := a1) ht
  (try unfold lex3)
  (try simp only [bI_0, bI_n, Classical.not_not] at *)
  (try simp (disch := omega) only [i32_id] at *)
  first | done | omega | ((repeat' (with_reducible apply And.intro)) <;> first | assumption | rfl | omega | (rw [hI.2.2.2, show x4 = s.2 6 1 by omega]) | grind [upI])
theorem vX3_powers_2 (s : MS) (a1 : Int) (a2 : Int) (hp : tOK (s.2 6) ∧ 0 ≤ a1 ∧ a1 ≤ 100000 ∧ (a2 = 1 ∨ a2 = 2 ∨ a2 = 3)) (x2 : Int) (x3 : Int) (x4 : Int) (f11 : Int → Int) (hI : (0 ≤ x4 ∧ x4 ≤ s.2 6 1) ∧ x2 = a2 ∧ f11 = figs (s.2 6 0) (s.2 6 1) a1 (s.2 11) ∧ x3 = psum a2.toNat (dig (s.2 6 0) (s.2 6 1) a1) x4.toNat) (c_1 : (s.2 6 1) ≤ x4) : x3 = (psum (a2).toNat (dig ((s.2 6) 0) ((s.2 6) 1) a1) ((s.2 6) 1).toNat) := by
  obtain ⟨ht, h0, h1, hn⟩ := hp
  have hL := tOK_L ht
  have hB := tOK_B ht
  have hN := tOK_N ht
  have hD := dig_in' (x := a1) ht
  (try unfold lex3)
  (try simp only [bI_0, bI_n, Classical.not_not] at *)
  (try simp (disch := omega) only [i32_id] at *)
  first | done | omega | ((repeat' (with_reducible apply And.intro)) <;> first | assumption | rfl | omega | (rw [hI.2.2.2, show x4 = s.2 6 1 by omega]) | grind [upI])
theorem vX3_powers_3 (s : MS) (a1 : Int) (a2 : Int) (hp : tOK (s.2 6) ∧ 0 ≤ a1 ∧ a1 ≤ 100000 ∧ (a2 = 1 ∨ a2 = 2 ∨ a2 = 3)) (x2 : Int) (x3 : Int) (x4 : Int) (f11 : Int → Int) (hI : (0 ≤ x4 ∧ x4 ≤ s.2 6 1) ∧ x2 = a2 ∧ f11 = figs (s.2 6 0) (s.2 6 1) a1 (s.2 11) ∧ x3 = psum a2.toNat (dig (s.2 6 0) (s.2 6 1) a1) x4.toNat) (c_1 : ¬ (s.2 6 1) ≤ x4) (c_2 : ¬ x2 = 1) (c_3 : ¬ x2 = 2) : (0 ≤ x4 ∧ x4 < 8) := by
  obtain ⟨ht, h0, h1, hn⟩ := hp
  have hL := tOK_L ht
  have hB := tOK_B ht
  have hN := tOK_N ht
  have hD := dig_in' (x := a1) ht
  (try unfold lex3)
  (try simp only [bI_0, bI_n, Classical.not_not] at *)
  (try simp (disch := omega) only [i32_id] at *)
  first | done | omega | ((repeat' (with_reducible apply And.intro)) <;> first | assumption | rfl | omega | (rw [hI.2.2.2, show x4 = s.2 6 1 by omega]) | grind [upI])
theorem vX3_powers_4 (s : MS) (a1 : Int) (a2 : Int) (hp : tOK (s.2 6) ∧ 0 ≤ a1 ∧ a1 ≤ 100000 ∧ (a2 = 1 ∨ a2 = 2 ∨ a2 = 3)) (x2 : Int) (x3 : Int) (x4 : Int) (f11 : Int → Int) (hI : (0 ≤ x4 ∧ x4 ≤ s.2 6 1) ∧ x2 = a2 ∧ f11 = figs (s.2 6 0) (s.2 6 1) a1 (s.2 11) ∧ x3 = psum a2.toNat (dig (s.2 6 0) (s.2 6 1) a1) x4.toNat) (c_1 : ¬ (s.2 6 1) ≤ x4) (c_2 : ¬ x2 = 1) (c_3 : ¬ x2 = 2) (o_4 : (0 ≤ x4 ∧ x4 < 8)) : (0 ≤ (i32 (x4 + 1)) ∧ (i32 (x4 + 1)) ≤ s.2 6 1) ∧ x2 = a2 ∧ f11 = figs (s.2 6 0) (s.2 6 1) a1 (s.2 11) ∧ (i32 (x3 + (i32 ((i32 ((f11 x4) * (f11 x4))) * (f11 x4))))) = psum a2.toNat (dig (s.2 6 0) (s.2 6 1) a1) (i32 (x4 + 1)).toNat := by
  obtain ⟨ht, h0, h1, hn⟩ := hp
  have hL := tOK_L ht
  have hB := tOK_B ht
  have hN := tOK_N ht
  have hD := dig_in' (x := a1) ht
  have hD2 : ∀ i : Int, 0 ≤ i → i < s.2 6 1 → 0 ≤ dig (s.2 6 0) (s.2 6 1) a1 i ∧ dig (s.2 6 0) (s.2 6 1) a1 i < 16 := fun i a b => by have := hD i a b; omega
  have hd := hD2 x4 (by omega) (by omega)
  rw [i32_id (x := x4 + 1) (by omega) (by omega)]
  refine ⟨by omega, hI.2.1, hI.2.2.1, ?_⟩
  rw [hI.2.2.1, figs_at (by omega) (by omega), hI.2.2.2]
  exact psum_step (by omega) hL.2 hD2 (by omega) (by omega) (by rw [show a2 = 3 by omega]; exact i32_p3 hd.1 hd.2)
theorem vX3_powers_5 (s : MS) (a1 : Int) (a2 : Int) (hp : tOK (s.2 6) ∧ 0 ≤ a1 ∧ a1 ≤ 100000 ∧ (a2 = 1 ∨ a2 = 2 ∨ a2 = 3)) (x2 : Int) (x3 : Int) (x4 : Int) (f11 : Int → Int) (hI : (0 ≤ x4 ∧ x4 ≤ s.2 6 1) ∧ x2 = a2 ∧ f11 = figs (s.2 6 0) (s.2 6 1) a1 (s.2 11) ∧ x3 = psum a2.toNat (dig (s.2 6 0) (s.2 6 1) a1) x4.toNat) (c_1 : ¬ (s.2 6 1) ≤ x4) (c_2 : ¬ x2 = 1) (c_3 : ¬ x2 = 2) (o_4 : (0 ≤ x4 ∧ x4 < 8)) : lex3 0 0 ((s.2 6 1 - (i32 (x4 + 1))).toNat) 0 0 ((s.2 6 1 - x4).toNat) := by
  obtain ⟨ht, h0, h1, hn⟩ := hp
  have hL := tOK_L ht
  have hB := tOK_B ht
  have hN := tOK_N ht
  have hD := dig_in' (x := a1) ht
  (try unfold lex3)
  (try simp only [bI_0, bI_n, Classical.not_not] at *)
  (try simp (disch := omega) only [i32_id] at *)
  first | done | omega | ((repeat' (with_reducible apply And.intro)) <;> first | assumption | rfl | omega | (rw [hI.2.2.2, show x4 = s.2 6 1 by omega]) | grind [upI])
theorem vX3_powers_6 (s : MS) (a1 : Int) (a2 : Int) (hp : tOK (s.2 6) ∧ 0 ≤ a1 ∧ a1 ≤ 100000 ∧ (a2 = 1 ∨ a2 = 2 ∨ a2 = 3)) (x2 : Int) (x3 : Int) (x4 : Int) (f11 : Int → Int) (hI : (0 ≤ x4 ∧ x4 ≤ s.2 6 1) ∧ x2 = a2 ∧ f11 = figs (s.2 6 0) (s.2 6 1) a1 (s.2 11) ∧ x3 = psum a2.toNat (dig (s.2 6 0) (s.2 6 1) a1) x4.toNat) (c_1 : ¬ (s.2 6 1) ≤ x4) (c_2 : ¬ x2 = 1) (c_3 : x2 = 2) : (0 ≤ x4 ∧ x4 < 8) := by
  obtain ⟨ht, h0, h1, hn⟩ := hp
  have hL := tOK_L ht
  have hB := tOK_B ht
  have hN := tOK_N ht
  have hD := dig_in' (x := a1) ht
  (try unfold lex3)
  (try simp only [bI_0, bI_n, Classical.not_not] at *)
  (try simp (disch := omega) only [i32_id] at *)
  first | done | omega | ((repeat' (with_reducible apply And.intro)) <;> first | assumption | rfl | omega | (rw [hI.2.2.2, show x4 = s.2 6 1 by omega]) | grind [upI])
theorem vX3_powers_7 (s : MS) (a1 : Int) (a2 : Int) (hp : tOK (s.2 6) ∧ 0 ≤ a1 ∧ a1 ≤ 100000 ∧ (a2 = 1 ∨ a2 = 2 ∨ a2 = 3)) (x2 : Int) (x3 : Int) (x4 : Int) (f11 : Int → Int) (hI : (0 ≤ x4 ∧ x4 ≤ s.2 6 1) ∧ x2 = a2 ∧ f11 = figs (s.2 6 0) (s.2 6 1) a1 (s.2 11) ∧ x3 = psum a2.toNat (dig (s.2 6 0) (s.2 6 1) a1) x4.toNat) (c_1 : ¬ (s.2 6 1) ≤ x4) (c_2 : ¬ x2 = 1) (c_3 : x2 = 2) (o_5 : (0 ≤ x4 ∧ x4 < 8)) : (0 ≤ (i32 (x4 + 1)) ∧ (i32 (x4 + 1)) ≤ s.2 6 1) ∧ x2 = a2 ∧ f11 = figs (s.2 6 0) (s.2 6 1) a1 (s.2 11) ∧ (i32 (x3 + (i32 ((f11 x4) * (f11 x4))))) = psum a2.toNat (dig (s.2 6 0) (s.2 6 1) a1) (i32 (x4 + 1)).toNat := by
  obtain ⟨ht, h0, h1, hn⟩ := hp
  have hL := tOK_L ht
  have hB := tOK_B ht
  have hN := tOK_N ht
  have hD := dig_in' (x := a1) ht
  have hD2 : ∀ i : Int, 0 ≤ i → i < s.2 6 1 → 0 ≤ dig (s.2 6 0) (s.2 6 1) a1 i ∧ dig (s.2 6 0) (s.2 6 1) a1 i < 16 := fun i a b => by have := hD i a b; omega
  have hd := hD2 x4 (by omega) (by omega)
  rw [i32_id (x := x4 + 1) (by omega) (by omega)]
  refine ⟨by omega, hI.2.1, hI.2.2.1, ?_⟩
  rw [hI.2.2.1, figs_at (by omega) (by omega), hI.2.2.2]
  exact psum_step (by omega) hL.2 hD2 (by omega) (by omega) (by rw [show a2 = 2 by omega]; exact i32_p2 hd.1 hd.2)
theorem vX3_powers_8 (s : MS) (a1 : Int) (a2 : Int) (hp : tOK (s.2 6) ∧ 0 ≤ a1 ∧ a1 ≤ 100000 ∧ (a2 = 1 ∨ a2 = 2 ∨ a2 = 3)) (x2 : Int) (x3 : Int) (x4 : Int) (f11 : Int → Int) (hI : (0 ≤ x4 ∧ x4 ≤ s.2 6 1) ∧ x2 = a2 ∧ f11 = figs (s.2 6 0) (s.2 6 1) a1 (s.2 11) ∧ x3 = psum a2.toNat (dig (s.2 6 0) (s.2 6 1) a1) x4.toNat) (c_1 : ¬ (s.2 6 1) ≤ x4) (c_2 : ¬ x2 = 1) (c_3 : x2 = 2) (o_5 : (0 ≤ x4 ∧ x4 < 8)) : lex3 0 0 ((s.2 6 1 - (i32 (x4 + 1))).toNat) 0 0 ((s.2 6 1 - x4).toNat) := by
  obtain ⟨ht, h0, h1, hn⟩ := hp
  have hL := tOK_L ht
  have hB := tOK_B ht
  have hN := tOK_N ht
  have hD := dig_in' (x := a1) ht
  (try unfold lex3)
  (try simp only [bI_0, bI_n, Classical.not_not] at *)
  (try simp (disch := omega) only [i32_id] at *)
  first | done | omega | ((repeat' (with_reducible apply And.intro)) <;> first | assumption | rfl | omega | (rw [hI.2.2.2, show x4 = s.2 6 1 by omega]) | grind [upI])
theorem vX3_powers_9 (s : MS) (a1 : Int) (a2 : Int) (hp : tOK (s.2 6) ∧ 0 ≤ a1 ∧ a1 ≤ 100000 ∧ (a2 = 1 ∨ a2 = 2 ∨ a2 = 3)) (x2 : Int) (x3 : Int) (x4 : Int) (f11 : Int → Int) (hI : (0 ≤ x4 ∧ x4 ≤ s.2 6 1) ∧ x2 = a2 ∧ f11 = figs (s.2 6 0) (s.2 6 1) a1 (s.2 11) ∧ x3 = psum a2.toNat (dig (s.2 6 0) (s.2 6 1) a1) x4.toNat) (c_1 : ¬ (s.2 6 1) ≤ x4) (c_2 : x2 = 1) : (0 ≤ x4 ∧ x4 < 8) := by
  obtain ⟨ht, h0, h1, hn⟩ := hp
  have hL := tOK_L ht
  have hB := tOK_B ht
  have hN := tOK_N ht
  have hD := dig_in' (x := a1) ht
  (try unfold lex3)
  (try simp only [bI_0, bI_n, Classical.not_not] at *)
  (try simp (disch := omega) only [i32_id] at *)
  first | done | omega | ((repeat' (with_reducible apply And.intro)) <;> first | assumption | rfl | omega | (rw [hI.2.2.2, show x4 = s.2 6 1 by omega]) | grind [upI])
theorem vX3_powers_10 (s : MS) (a1 : Int) (a2 : Int) (hp : tOK (s.2 6) ∧ 0 ≤ a1 ∧ a1 ≤ 100000 ∧ (a2 = 1 ∨ a2 = 2 ∨ a2 = 3)) (x2 : Int) (x3 : Int) (x4 : Int) (f11 : Int → Int) (hI : (0 ≤ x4 ∧ x4 ≤ s.2 6 1) ∧ x2 = a2 ∧ f11 = figs (s.2 6 0) (s.2 6 1) a1 (s.2 11) ∧ x3 = psum a2.toNat (dig (s.2 6 0) (s.2 6 1) a1) x4.toNat) (c_1 : ¬ (s.2 6 1) ≤ x4) (c_2 : x2 = 1) (o_6 : (0 ≤ x4 ∧ x4 < 8)) : (0 ≤ (i32 (x4 + 1)) ∧ (i32 (x4 + 1)) ≤ s.2 6 1) ∧ x2 = a2 ∧ f11 = figs (s.2 6 0) (s.2 6 1) a1 (s.2 11) ∧ (i32 (x3 + (f11 x4))) = psum a2.toNat (dig (s.2 6 0) (s.2 6 1) a1) (i32 (x4 + 1)).toNat := by
  obtain ⟨ht, h0, h1, hn⟩ := hp
  have hL := tOK_L ht
  have hB := tOK_B ht
  have hN := tOK_N ht
  have hD := dig_in' (x := a1) ht
  have hD2 : ∀ i : Int, 0 ≤ i → i < s.2 6 1 → 0 ≤ dig (s.2 6 0) (s.2 6 1) a1 i ∧ dig (s.2 6 0) (s.2 6 1) a1 i < 16 := fun i a b => by have := hD i a b; omega
  have hd := hD2 x4 (by omega) (by omega)
  rw [i32_id (x := x4 + 1) (by omega) (by omega)]
  refine ⟨by omega, hI.2.1, hI.2.2.1, ?_⟩
  rw [hI.2.2.1, figs_at (by omega) (by omega), hI.2.2.2]
  exact psum_step (by omega) hL.2 hD2 (by omega) (by omega) (by rw [show a2 = 1 by omega]; exact (pw1 _).symm)
theorem vX3_powers_11 (s : MS) (a1 : Int) (a2 : Int) (hp : tOK (s.2 6) ∧ 0 ≤ a1 ∧ a1 ≤ 100000 ∧ (a2 = 1 ∨ a2 = 2 ∨ a2 = 3)) (x2 : Int) (x3 : Int) (x4 : Int) (f11 : Int → Int) (hI : (0 ≤ x4 ∧ x4 ≤ s.2 6 1) ∧ x2 = a2 ∧ f11 = figs (s.2 6 0) (s.2 6 1) a1 (s.2 11) ∧ x3 = psum a2.toNat (dig (s.2 6 0) (s.2 6 1) a1) x4.toNat) (c_1 : ¬ (s.2 6 1) ≤ x4) (c_2 : x2 = 1) (o_6 : (0 ≤ x4 ∧ x4 < 8)) : lex3 0 0 ((s.2 6 1 - (i32 (x4 + 1))).toNat) 0 0 ((s.2 6 1 - x4).toNat) := by
  obtain ⟨ht, h0, h1, hn⟩ := hp
  have hL := tOK_L ht
  have hB := tOK_B ht
  have hN := tOK_N ht
  have hD := dig_in' (x := a1) ht
  (try unfold lex3)
  (try simp only [bI_0, bI_n, Classical.not_not] at *)
  (try simp (disch := omega) only [i32_id] at *)
  first | done | omega | ((repeat' (with_reducible apply And.intro)) <;> first | assumption | rfl | omega | (rw [hI.2.2.2, show x4 = s.2 6 1 by omega]) | grind [upI])
theorem vX3_powers_12 (s : MS) (a1 : Int) (a2 : Int) (hp : tOK (s.2 6) ∧ 0 ≤ a1 ∧ a1 ≤ 100000 ∧ (a2 = 1 ∨ a2 = 2 ∨ a2 = 3)) : (tOK (s.2 6) ∧ 0 ≤ a1 ∧ a1 ≤ 100000) := by
  obtain ⟨ht, h0, h1, hn⟩ := hp
  have hL := tOK_L ht
  have hB := tOK_B ht
  have hN := tOK_N ht
  have hD := dig_in' (x := a1) ht
  (try unfold lex3)
  (try simp only [bI_0, bI_n, Classical.not_not] at *)
  (try simp (disch := omega) only [i32_id] at *)
  first | done | omega | ((repeat' (with_reducible apply And.intro)) <;> first | assumption | rfl | omega | (rw [hI.2.2.2, show x4 = s.2 6 1 by omega]) | grind [upI])
theorem vX3_powers_13 (s : MS) (a1 : Int) (a2 : Int) (hp : tOK (s.2 6) ∧ 0 ≤ a1 ∧ a1 ≤ 100000 ∧ (a2 = 1 ∨ a2 = 2 ∨ a2 = 3)) (o_1 : (tOK (s.2 6) ∧ 0 ≤ a1 ∧ a1 ≤ 100000)) : (0 ≤ (0 : Int) ∧ (0 : Int) ≤ s.2 6 1) ∧ a2 = a2 ∧ (figs ((s.2 6) 0) ((s.2 6) 1) a1 (s.2 11)) = figs (s.2 6 0) (s.2 6 1) a1 (s.2 11) ∧ (0 : Int) = psum a2.toNat (dig (s.2 6 0) (s.2 6 1) a1) (0 : Int).toNat := by
  obtain ⟨ht, h0, h1, hn⟩ := hp
  have hL := tOK_L ht
  have hB := tOK_B ht
  have hN := tOK_N ht
  have hD := dig_in' (x := a1) ht
  (try unfold lex3)
  (try simp only [bI_0, bI_n, Classical.not_not] at *)
  (try simp (disch := omega) only [i32_id] at *)
  first | done | omega | ((repeat' (with_reducible apply And.intro)) <;> first | assumption | rfl | omega | (rw [hI.2.2.2, show x4 = s.2 6 1 by omega]) | grind [upI])
theorem allX3_powers (b : AH) (s : MS) (a1 : Int) (a2 : Int) (hp : tOK (s.2 6) ∧ 0 ≤ a1 ∧ a1 ≤ 100000 ∧ (a2 = 1 ∨ a2 = 2 ∨ a2 = 3)) : ∀ m1 m2 m3 : Nat, (∀ (x2 : Int) (x3 : Int) (x4 : Int) (f11 : Int → Int), m1 = 0 → m2 = 0 → m3 = ((s.2 6 1 - x4).toNat) → ((0 ≤ x4 ∧ x4 ≤ s.2 6 1) ∧ x2 = a2 ∧ f11 = figs (s.2 6 0) (s.2 6 1) a1 (s.2 11) ∧ x3 = psum a2.toNat (dig (s.2 6 0) (s.2 6 1) a1) x4.toNat) → HX3_powers_10 (QX3_powers s a1 a2) b s x2 x3 x4 f11) := by
  refine lex3_ind ?_
  intro m1 m2 m3 ih
  rintro x2 x3 x4 f11 rfl rfl rfl hI
  refine bX3_powers_10 b s x2 x3 x4 f11 ?_
  refine ⟨fun c_1 => ?_, fun c_1 => ?_⟩
  · exact ⟨(rI_c (vX3_powers_2 s a1 a2 hp x2 x3 x4 f11 hI c_1)), (sA_c rfl (vX3_powers_1 s a1 a2 hp x2 x3 x4 f11 hI c_1))⟩
  · refine ⟨fun c_2 => ?_, fun c_2 => ?_⟩
    · refine ⟨fun c_3 => ?_, fun c_3 => ?_⟩
      · have o_4 : (0 ≤ x4 ∧ x4 < 8) := (vX3_powers_3 s a1 a2 hp x2 x3 x4 f11 hI c_1 c_2 c_3)
        refine ⟨o_4, ?_⟩
        exact (ih _ _ _ (vX3_powers_5 s a1 a2 hp x2 x3 x4 f11 hI c_1 c_2 c_3 o_4)) x2 (i32 (x3 + (i32 ((i32 ((f11 x4) * (f11 x4))) * (f11 x4))))) (i32 (x4 + 1)) f11 rfl rfl rfl (vX3_powers_4 s a1 a2 hp x2 x3 x4 f11 hI c_1 c_2 c_3 o_4)
      · have o_5 : (0 ≤ x4 ∧ x4 < 8) := (vX3_powers_6 s a1 a2 hp x2 x3 x4 f11 hI c_1 c_2 c_3)
        refine ⟨o_5, ?_⟩
        exact (ih _ _ _ (vX3_powers_8 s a1 a2 hp x2 x3 x4 f11 hI c_1 c_2 c_3 o_5)) x2 (i32 (x3 + (i32 ((f11 x4) * (f11 x4))))) (i32 (x4 + 1)) f11 rfl rfl rfl (vX3_powers_7 s a1 a2 hp x2 x3 x4 f11 hI c_1 c_2 c_3 o_5)
    · have o_6 : (0 ≤ x4 ∧ x4 < 8) := (vX3_powers_9 s a1 a2 hp x2 x3 x4 f11 hI c_1 c_2)
      refine ⟨o_6, ?_⟩
      exact (ih _ _ _ (vX3_powers_11 s a1 a2 hp x2 x3 x4 f11 hI c_1 c_2 o_6)) x2 (i32 (x3 + (f11 x4))) (i32 (x4 + 1)) f11 rfl rfl rfl (vX3_powers_10 s a1 a2 hp x2 x3 x4 f11 hI c_1 c_2 o_6)
theorem ctX3_powers (b : AH) (s : MS) (a1 : Int) (a2 : Int) (hp : tOK (s.2 6) ∧ 0 ≤ a1 ∧ a1 ≤ 100000 ∧ (a2 = 1 ∨ a2 = 2 ∨ a2 = 3)) : MC mX3_powers 2 b s [vI a1, vI a2] (QX3_powers s a1 a2) := by
  refine MC.of (by decide) rfl (Nat.le_of_ble_eq_true rfl) (JW.steq (s2 := sA s 11 (s.2 11)) (by simp only [sA_id, sS_id]) ?_)
  refine bX3_powers_0 b s a1 a2 (s.2 11) ?_
  have o_1 : (tOK (s.2 6) ∧ 0 ≤ a1 ∧ a1 ≤ 100000) := (vX3_powers_12 s a1 a2 hp)
  refine ⟨o_1, ?_⟩
  exact (allX3_powers b s a1 a2 hp _ _ _) a2 0 0 (figs ((s.2 6) 0) ((s.2 6) 1) a1 (s.2 11)) rfl rfl rfl (vX3_powers_13 s a1 a2 hp o_1)
def HX3_leftOut_0 (Q : Option AV → MS → Prop) (b : AH) (s : MS) (x1 : Int) (x2 : Int) (f11 : Int → Int) : Prop := MW mX3_leftOut 2 Q b 0 [(0, vR 351), (1, vI x1), (2, vI x2)] [] (sA s 11 f11)
def HX3_leftOut_10 (Q : Option AV → MS → Prop) (b : AH) (s : MS) (x2 : Int) (x3 : Int) (x4 : Int) (f11 : Int → Int) : Prop := MW mX3_leftOut 2 Q b 10 [(0, vR 351), (2, vI x2), (3, vI x3), (4, vI x4)] [] (sA s 11 f11)
theorem bX3_leftOut_0 {Q : Option AV → MS → Prop} (b : AH) (s : MS) (x1 : Int) (x2 : Int) (f11 : Int → Int) (K : (tOK (s.2 6) ∧ 0 ≤ x1 ∧ x1 ≤ 100000) ∧ (HX3_leftOut_10 Q b s x2 0 0 (figs ((s.2 6) 0) ((s.2 6) 1) x1 f11))) : HX3_leftOut_0 Q b s x1 x2 f11 := by
  refine JW.aload_n dX3_leftOut_0 rfl ?_
  refine JW.iload_n dX3_leftOut_1 rfl ?_
  obtain ⟨o_1, K⟩ := K
  refine JW.mcall (As := [vI x1]) dX3_leftOut_2 vX3_figures rfl q1810 (ctX3_figures b (sA s 11 f11) x1 o_1) (Nat.le_of_ble_eq_true rfl) rfl (Nat.le_of_ble_eq_true rfl) ?_
  rintro _ _ ⟨rfl, rfl⟩
  refine JW.steq (s2 := sA s 11 (figs ((s.2 6) 0) ((s.2 6) 1) x1 f11)) (by simp only [sA_A, sS_S, sA_S, sA_lt, sS_lt, Nat.reduceLT, id_eq] <;> rfl) ?_
  refine JW.iconst dX3_leftOut_5 rfl ?_
  refine JW.istore_n (ls' := [(0, vR 351), (1, vI x1), (2, vI x2), (3, vI 0)]) dX3_leftOut_6 (Nat.le_of_ble_eq_true rfl) rfl ?_
  refine JW.iconst dX3_leftOut_7 rfl ?_
  refine JW.istore (ls' := [(0, vR 351), (1, vI x1), (2, vI x2), (3, vI 0), (4, vI 0)]) dX3_leftOut_8 (Nat.le_of_ble_eq_true rfl) rfl ?_
  exact JW.pick [0, 2, 3, 4] rfl K
theorem bX3_leftOut_10 {Q : Option AV → MS → Prop} (b : AH) (s : MS) (x2 : Int) (x3 : Int) (x4 : Int) (f11 : Int → Int) (K : ((s.2 6 1) ≤ x4 → Q (some (vI x3)) (sA s 11 f11)) ∧ (¬ (s.2 6 1) ≤ x4 → (0 ≤ x4 ∧ x4 < 8) ∧ (((f11 x4) = x2 → HX3_leftOut_10 Q b s x2 x3 (i32 (x4 + 1)) f11) ∧ (¬ (f11 x4) = x2 → HX3_leftOut_10 Q b s x2 (i32 ((i32 (x3 * (s.2 6 0))) + (f11 x4))) (i32 (x4 + 1)) f11)))) : HX3_leftOut_10 Q b s x2 x3 x4 f11 := by
  refine JW.iload dX3_leftOut_10 rfl ?_
  refine JW.aload_n dX3_leftOut_12 rfl ?_
  refine JW.mget (v := vR 358) dX3_leftOut_13 fX3_34 rfl ?_
  refine JW.iconst dX3_leftOut_16 rfl ?_
  refine JW.mald 6 (x := (s.2 6 1)) dX3_leftOut_17 (Nat.le_of_ble_eq_true rfl) rfl (by decide) (by decide) rfl ?_
  refine JW.icmp_ge (tgt := 55) dX3_leftOut_18 rfl (fun c_1 => ?_) (fun c_1 => ?_)
  · have K := K.1 c_1
    refine JW.iload_n dX3_leftOut_55 rfl ?_
    exact JW.ireturn dX3_leftOut_56 rfl rfl ⟨_, rfl, K⟩
  · have K := K.2 c_1
    refine JW.aload_n dX3_leftOut_21 rfl ?_
    refine JW.mget (v := vR 363) dX3_leftOut_22 fX3_50 rfl ?_
    refine JW.iload dX3_leftOut_25 rfl ?_
    obtain ⟨o_2, K⟩ := K
    refine JW.mald 11 (x := (f11 x4)) dX3_leftOut_27 (Nat.le_of_ble_eq_true rfl) rfl o_2.1 o_2.2 rfl ?_
    refine JW.iload_n dX3_leftOut_28 rfl ?_
    refine JW.icmp_eq (tgt := 49) dX3_leftOut_29 rfl (fun c_3 => ?_) (fun c_3 => ?_)
    · have K := K.1 c_3
      refine JW.iinc (ls' := [(0, vR 351), (2, vI x2), (3, vI x3), (4, vI (i32 (x4 + 1)))]) dX3_leftOut_49 (Nat.le_of_ble_eq_true rfl) rfl rfl ?_
      refine JW.goto (tgt := 10) dX3_leftOut_52 rfl ?_
      exact JW.pick [0, 2, 3, 4] rfl K
    · have K := K.2 c_3
      refine JW.iload_n dX3_leftOut_32 rfl ?_
      refine JW.aload_n dX3_leftOut_33 rfl ?_
      refine JW.mget (v := vR 358) dX3_leftOut_34 fX3_34 rfl ?_
      refine JW.iconst dX3_leftOut_37 rfl ?_
      refine JW.mald 6 (x := (s.2 6 0)) dX3_leftOut_38 (Nat.le_of_ble_eq_true rfl) rfl (by decide) (by decide) rfl ?_
      refine JW.imul dX3_leftOut_39 ?_
      refine JW.aload_n dX3_leftOut_40 rfl ?_
      refine JW.mget (v := vR 363) dX3_leftOut_41 fX3_50 rfl ?_
      refine JW.iload dX3_leftOut_44 rfl ?_
      refine JW.mald 11 (x := (f11 x4)) dX3_leftOut_46 (Nat.le_of_ble_eq_true rfl) rfl o_2.1 o_2.2 rfl ?_
      refine JW.iadd dX3_leftOut_47 ?_
      refine JW.istore_n (ls' := [(0, vR 351), (2, vI x2), (3, vI (i32 ((i32 (x3 * (s.2 6 0))) + (f11 x4)))), (4, vI x4)]) dX3_leftOut_48 (Nat.le_of_ble_eq_true rfl) rfl ?_
      refine JW.iinc (ls' := [(0, vR 351), (2, vI x2), (3, vI (i32 ((i32 (x3 * (s.2 6 0))) + (f11 x4)))), (4, vI (i32 (x4 + 1)))]) dX3_leftOut_49 (Nat.le_of_ble_eq_true rfl) rfl rfl ?_
      refine JW.goto (tgt := 10) dX3_leftOut_52 rfl ?_
      exact JW.pick [0, 2, 3, 4] rfl K
def QX3_leftOut (s : MS) (a1 : Int) (a2 : Int) : Option AV → MS → Prop := fun v s' => v = some (vI (lof ((s.2 6) 0) a2 (dig ((s.2 6) 0) ((s.2 6) 1) a1) ((s.2 6) 1).toNat)) ∧ s' = sA s 11 (figs ((s.2 6) 0) ((s.2 6) 1) a1 (s.2 11))
theorem vX3_leftOut_1 (s : MS) (a1 : Int) (a2 : Int) (hp : tOK (s.2 6) ∧ 0 ≤ a1 ∧ a1 ≤ 100000) (x2 : Int) (x3 : Int) (x4 : Int) (f11 : Int → Int) (hI : (0 ≤ x4 ∧ x4 ≤ s.2 6 1) ∧ x2 = a2 ∧ f11 = figs (s.2 6 0) (s.2 6 1) a1 (s.2 11) ∧ x3 = lof (s.2 6 0) a2 (dig (s.2 6 0) (s.2 6 1) a1) x4.toNat) (c_1 : (s.2 6 1) ≤ x4) : f11 = (figs ((s.2 6) 0) ((s.2 6) 1) a1 (s.2 11)) := by
  obtain ⟨ht, h0, h1⟩ := hp
  have hL := tOK_L ht
  have hB := tOK_B ht
  have hN := tOK_N ht
  have hD := dig_in' (x := a1) ht
  (try unfold lex3)
  (try simp only [bI_0, bI_n, Classical.not_not] at *)
  (try simp (disch := omega) only [i32_id] at *)
  first | done | omega | ((repeat' (with_reducible apply And.intro)) <;> first | assumption | rfl | omega | (rw [hI.2.2.2, show x4 = s.2 6 1 by omega]) | (rw [hI.2.2.1, figs_at (by omega) (by omega)] at c_3 ⊢; rw [hI.2.2.2]; rw [hI.2.1] at c_3; exact lof_step ht hD (by omega) (by omega) c_3) | (rw [hI.2.2.1, figs_at (by omega) (by omega), hI.2.1] at c_3; rw [hI.2.2.2]; exact lof_skip (by omega) c_3) | grind [upI])
theorem vX3_leftOut_2 (s : MS) (a1 : Int) (a2 : Int) (hp : tOK (s.2 6) ∧ 0 ≤ a1 ∧ a1 ≤ 100000) (x2 : Int) (x3 : Int) (x4 : Int) (f11 : Int → Int) (hI : (0 ≤ x4 ∧ x4 ≤ s.2 6 1) ∧ x2 = a2 ∧ f11 = figs (s.2 6 0) (s.2 6 1) a1 (s.2 11) ∧ x3 = lof (s.2 6 0) a2 (dig (s.2 6 0) (s.2 6 1) a1) x4.toNat) (c_1 : (s.2 6 1) ≤ x4) : x3 = (lof ((s.2 6) 0) a2 (dig ((s.2 6) 0) ((s.2 6) 1) a1) ((s.2 6) 1).toNat) := by
  obtain ⟨ht, h0, h1⟩ := hp
  have hL := tOK_L ht
  have hB := tOK_B ht
  have hN := tOK_N ht
  have hD := dig_in' (x := a1) ht
  (try unfold lex3)
  (try simp only [bI_0, bI_n, Classical.not_not] at *)
  (try simp (disch := omega) only [i32_id] at *)
  first | done | omega | ((repeat' (with_reducible apply And.intro)) <;> first | assumption | rfl | omega | (rw [hI.2.2.2, show x4 = s.2 6 1 by omega]) | (rw [hI.2.2.1, figs_at (by omega) (by omega)] at c_3 ⊢; rw [hI.2.2.2]; rw [hI.2.1] at c_3; exact lof_step ht hD (by omega) (by omega) c_3) | (rw [hI.2.2.1, figs_at (by omega) (by omega), hI.2.1] at c_3; rw [hI.2.2.2]; exact lof_skip (by omega) c_3) | grind [upI])
theorem vX3_leftOut_3 (s : MS) (a1 : Int) (a2 : Int) (hp : tOK (s.2 6) ∧ 0 ≤ a1 ∧ a1 ≤ 100000) (x2 : Int) (x3 : Int) (x4 : Int) (f11 : Int → Int) (hI : (0 ≤ x4 ∧ x4 ≤ s.2 6 1) ∧ x2 = a2 ∧ f11 = figs (s.2 6 0) (s.2 6 1) a1 (s.2 11) ∧ x3 = lof (s.2 6 0) a2 (dig (s.2 6 0) (s.2 6 1) a1) x4.toNat) (c_1 : ¬ (s.2 6 1) ≤ x4) : (0 ≤ x4 ∧ x4 < 8) := by
  obtain ⟨ht, h0, h1⟩ := hp
  have hL := tOK_L ht
  have hB := tOK_B ht
  have hN := tOK_N ht
  have hD := dig_in' (x := a1) ht
  (try unfold lex3)
  (try simp only [bI_0, bI_n, Classical.not_not] at *)
  (try simp (disch := omega) only [i32_id] at *)
  first | done | omega | ((repeat' (with_reducible apply And.intro)) <;> first | assumption | rfl | omega | (rw [hI.2.2.2, show x4 = s.2 6 1 by omega]) | (rw [hI.2.2.1, figs_at (by omega) (by omega)] at c_3 ⊢; rw [hI.2.2.2]; rw [hI.2.1] at c_3; exact lof_step ht hD (by omega) (by omega) c_3) | (rw [hI.2.2.1, figs_at (by omega) (by omega), hI.2.1] at c_3; rw [hI.2.2.2]; exact lof_skip (by omega) c_3) | grind [upI])
theorem vX3_leftOut_4 (s : MS) (a1 : Int) (a2 : Int) (hp : tOK (s.2 6) ∧ 0 ≤ a1 ∧ a1 ≤ 100000) (x2 : Int) (x3 : Int) (x4 : Int) (f11 : Int → Int) (hI : (0 ≤ x4 ∧ x4 ≤ s.2 6 1) ∧ x2 = a2 ∧ f11 = figs (s.2 6 0) (s.2 6 1) a1 (s.2 11) ∧ x3 = lof (s.2 6 0) a2 (dig (s.2 6 0) (s.2 6 1) a1) x4.toNat) (c_1 : ¬ (s.2 6 1) ≤ x4) (o_2 : (0 ≤ x4 ∧ x4 < 8)) (c_3 : (f11 x4) = x2) : (0 ≤ (i32 (x4 + 1)) ∧ (i32 (x4 + 1)) ≤ s.2 6 1) ∧ x2 = a2 ∧ f11 = figs (s.2 6 0) (s.2 6 1) a1 (s.2 11) ∧ x3 = lof (s.2 6 0) a2 (dig (s.2 6 0) (s.2 6 1) a1) (i32 (x4 + 1)).toNat := by
  obtain ⟨ht, h0, h1⟩ := hp
  have hL := tOK_L ht
  have hB := tOK_B ht
  have hN := tOK_N ht
  have hD := dig_in' (x := a1) ht
  (try unfold lex3)
  (try simp only [bI_0, bI_n, Classical.not_not] at *)
  (try simp (disch := omega) only [i32_id] at *)
  first | done | omega | ((repeat' (with_reducible apply And.intro)) <;> first | assumption | rfl | omega | (rw [hI.2.2.2, show x4 = s.2 6 1 by omega]) | (rw [hI.2.2.1, figs_at (by omega) (by omega)] at c_3 ⊢; rw [hI.2.2.2]; rw [hI.2.1] at c_3; exact lof_step ht hD (by omega) (by omega) c_3) | (rw [hI.2.2.1, figs_at (by omega) (by omega), hI.2.1] at c_3; rw [hI.2.2.2]; exact lof_skip (by omega) c_3) | grind [upI])
theorem vX3_leftOut_5 (s : MS) (a1 : Int) (a2 : Int) (hp : tOK (s.2 6) ∧ 0 ≤ a1 ∧ a1 ≤ 100000) (x2 : Int) (x3 : Int) (x4 : Int) (f11 : Int → Int) (hI : (0 ≤ x4 ∧ x4 ≤ s.2 6 1) ∧ x2 = a2 ∧ f11 = figs (s.2 6 0) (s.2 6 1) a1 (s.2 11) ∧ x3 = lof (s.2 6 0) a2 (dig (s.2 6 0) (s.2 6 1) a1) x4.toNat) (c_1 : ¬ (s.2 6 1) ≤ x4) (o_2 : (0 ≤ x4 ∧ x4 < 8)) (c_3 : (f11 x4) = x2) : lex3 0 0 ((s.2 6 1 - (i32 (x4 + 1))).toNat) 0 0 ((s.2 6 1 - x4).toNat) := by
  obtain ⟨ht, h0, h1⟩ := hp
  have hL := tOK_L ht
  have hB := tOK_B ht
  have hN := tOK_N ht
  have hD := dig_in' (x := a1) ht
  (try unfold lex3)
  (try simp only [bI_0, bI_n, Classical.not_not] at *)
  (try simp (disch := omega) only [i32_id] at *)
  first | done | omega | ((repeat' (with_reducible apply And.intro)) <;> first | assumption | rfl | omega | (rw [hI.2.2.2, show x4 = s.2 6 1 by omega]) | (rw [hI.2.2.1, figs_at (by omega) (by omega)] at c_3 ⊢; rw [hI.2.2.2]; rw [hI.2.1] at c_3; exact lof_step ht hD (by omega) (by omega) c_3) | (rw [hI.2.2.1, figs_at (by omega) (by omega), hI.2.1] at c_3; rw [hI.2.2.2]; exact lof_skip (by omega) c_3) | grind [upI])
theorem vX3_leftOut_6 (s : MS) (a1 : Int) (a2 : Int) (hp : tOK (s.2 6) ∧ 0 ≤ a1 ∧ a1 ≤ 100000) (x2 : Int) (x3 : Int) (x4 : Int) (f11 : Int → Int) (hI : (0 ≤ x4 ∧ x4 ≤ s.2 6 1) ∧ x2 = a2 ∧ f11 = figs (s.2 6 0) (s.2 6 1) a1 (s.2 11) ∧ x3 = lof (s.2 6 0) a2 (dig (s.2 6 0) (s.2 6 1) a1) x4.toNat) (c_1 : ¬ (s.2 6 1) ≤ x4) (o_2 : (0 ≤ x4 ∧ x4 < 8)) (c_3 : ¬ (f11 x4) = x2) : (0 ≤ (i32 (x4 + 1)) ∧ (i32 (x4 + 1)) ≤ s.2 6 1) ∧ x2 = a2 ∧ f11 = figs (s.2 6 0) (s.2 6 1) a1 (s.2 11) ∧ (i32 ((i32 (x3 * (s.2 6 0))) + (f11 x4))) = lof (s.2 6 0) a2 (dig (s.2 6 0) (s.2 6 1) a1) (i32 (x4 + 1)).toNat := by
  obtain ⟨ht, h0, h1⟩ := hp
  have hL := tOK_L ht
  have hB := tOK_B ht
  have hN := tOK_N ht
  have hD := dig_in' (x := a1) ht
  (try unfold lex3)
  (try simp only [bI_0, bI_n, Classical.not_not] at *)
  (try simp (disch := omega) only [i32_id] at *)
  first | done | omega | ((repeat' (with_reducible apply And.intro)) <;> first | assumption | rfl | omega | (rw [hI.2.2.2, show x4 = s.2 6 1 by omega]) | (rw [hI.2.2.1, figs_at (by omega) (by omega)] at c_3 ⊢; rw [hI.2.2.2]; rw [hI.2.1] at c_3; exact lof_step ht hD (by omega) (by omega) c_3) | (rw [hI.2.2.1, figs_at (by omega) (by omega), hI.2.1] at c_3; rw [hI.2.2.2]; exact lof_skip (by omega) c_3) | grind [upI])
theorem vX3_leftOut_7 (s : MS) (a1 : Int) (a2 : Int) (hp : tOK (s.2 6) ∧ 0 ≤ a1 ∧ a1 ≤ 100000) (x2 : Int) (x3 : Int) (x4 : Int) (f11 : Int → Int) (hI : (0 ≤ x4 ∧ x4 ≤ s.2 6 1) ∧ x2 = a2 ∧ f11 = figs (s.2 6 0) (s.2 6 1) a1 (s.2 11) ∧ x3 = lof (s.2 6 0) a2 (dig (s.2 6 0) (s.2 6 1) a1) x4.toNat) (c_1 : ¬ (s.2 6 1) ≤ x4) (o_2 : (0 ≤ x4 ∧ x4 < 8)) (c_3 : ¬ (f11 x4) = x2) : lex3 0 0 ((s.2 6 1 - (i32 (x4 + 1))).toNat) 0 0 ((s.2 6 1 - x4).toNat) := by
  obtain ⟨ht, h0, h1⟩ := hp
  have hL := tOK_L ht
  have hB := tOK_B ht
  have hN := tOK_N ht
  have hD := dig_in' (x := a1) ht
  (try unfold lex3)
  (try simp only [bI_0, bI_n, Classical.not_not] at *)
  (try simp (disch := omega) only [i32_id] at *)
  first | done | omega | ((repeat' (with_reducible apply And.intro)) <;> first | assumption | rfl | omega | (rw [hI.2.2.2, show x4 = s.2 6 1 by omega]) | (rw [hI.2.2.1, figs_at (by omega) (by omega)] at c_3 ⊢; rw [hI.2.2.2]; rw [hI.2.1] at c_3; exact lof_step ht hD (by omega) (by omega) c_3) | (rw [hI.2.2.1, figs_at (by omega) (by omega), hI.2.1] at c_3; rw [hI.2.2.2]; exact lof_skip (by omega) c_3) | grind [upI])
theorem vX3_leftOut_8 (s : MS) (a1 : Int) (a2 : Int) (hp : tOK (s.2 6) ∧ 0 ≤ a1 ∧ a1 ≤ 100000) : (tOK (s.2 6) ∧ 0 ≤ a1 ∧ a1 ≤ 100000) := by
  obtain ⟨ht, h0, h1⟩ := hp
  have hL := tOK_L ht
  have hB := tOK_B ht
  have hN := tOK_N ht
  have hD := dig_in' (x := a1) ht
  (try unfold lex3)
  (try simp only [bI_0, bI_n, Classical.not_not] at *)
  (try simp (disch := omega) only [i32_id] at *)
  first | done | omega | ((repeat' (with_reducible apply And.intro)) <;> first | assumption | rfl | omega | (rw [hI.2.2.2, show x4 = s.2 6 1 by omega]) | (rw [hI.2.2.1, figs_at (by omega) (by omega)] at c_3 ⊢; rw [hI.2.2.2]; rw [hI.2.1] at c_3; exact lof_step ht hD (by omega) (by omega) c_3) | (rw [hI.2.2.1, figs_at (by omega) (by omega), hI.2.1] at c_3; rw [hI.2.2.2]; exact lof_skip (by omega) c_3) | grind [upI])
theorem vX3_leftOut_9 (s : MS) (a1 : Int) (a2 : Int) (hp : tOK (s.2 6) ∧ 0 ≤ a1 ∧ a1 ≤ 100000) (o_1 : (tOK (s.2 6) ∧ 0 ≤ a1 ∧ a1 ≤ 100000)) : (0 ≤ (0 : Int) ∧ (0 : Int) ≤ s.2 6 1) ∧ a2 = a2 ∧ (figs ((s.2 6) 0) ((s.2 6) 1) a1 (s.2 11)) = figs (s.2 6 0) (s.2 6 1) a1 (s.2 11) ∧ (0 : Int) = lof (s.2 6 0) a2 (dig (s.2 6 0) (s.2 6 1) a1) (0 : Int).toNat := by
  obtain ⟨ht, h0, h1⟩ := hp
  have hL := tOK_L ht
  have hB := tOK_B ht
  have hN := tOK_N ht
  have hD := dig_in' (x := a1) ht
  (try unfold lex3)
  (try simp only [bI_0, bI_n, Classical.not_not] at *)
  (try simp (disch := omega) only [i32_id] at *)
  first | done | omega | ((repeat' (with_reducible apply And.intro)) <;> first | assumption | rfl | omega | (rw [hI.2.2.2, show x4 = s.2 6 1 by omega]) | (rw [hI.2.2.1, figs_at (by omega) (by omega)] at c_3 ⊢; rw [hI.2.2.2]; rw [hI.2.1] at c_3; exact lof_step ht hD (by omega) (by omega) c_3) | (rw [hI.2.2.1, figs_at (by omega) (by omega), hI.2.1] at c_3; rw [hI.2.2.2]; exact lof_skip (by omega) c_3) | grind [upI])
theorem allX3_leftOut (b : AH) (s : MS) (a1 : Int) (a2 : Int) (hp : tOK (s.2 6) ∧ 0 ≤ a1 ∧ a1 ≤ 100000) : ∀ m1 m2 m3 : Nat, (∀ (x2 : Int) (x3 : Int) (x4 : Int) (f11 : Int → Int), m1 = 0 → m2 = 0 → m3 = ((s.2 6 1 - x4).toNat) → ((0 ≤ x4 ∧ x4 ≤ s.2 6 1) ∧ x2 = a2 ∧ f11 = figs (s.2 6 0) (s.2 6 1) a1 (s.2 11) ∧ x3 = lof (s.2 6 0) a2 (dig (s.2 6 0) (s.2 6 1) a1) x4.toNat) → HX3_leftOut_10 (QX3_leftOut s a1 a2) b s x2 x3 x4 f11) := by
  refine lex3_ind ?_
  intro m1 m2 m3 ih
  rintro x2 x3 x4 f11 rfl rfl rfl hI
  refine bX3_leftOut_10 b s x2 x3 x4 f11 ?_
  refine ⟨fun c_1 => ?_, fun c_1 => ?_⟩
  · exact ⟨(rI_c (vX3_leftOut_2 s a1 a2 hp x2 x3 x4 f11 hI c_1)), (sA_c rfl (vX3_leftOut_1 s a1 a2 hp x2 x3 x4 f11 hI c_1))⟩
  · have o_2 : (0 ≤ x4 ∧ x4 < 8) := (vX3_leftOut_3 s a1 a2 hp x2 x3 x4 f11 hI c_1)
    refine ⟨o_2, ?_⟩
    refine ⟨fun c_3 => ?_, fun c_3 => ?_⟩
    · exact (ih _ _ _ (vX3_leftOut_5 s a1 a2 hp x2 x3 x4 f11 hI c_1 o_2 c_3)) x2 x3 (i32 (x4 + 1)) f11 rfl rfl rfl (vX3_leftOut_4 s a1 a2 hp x2 x3 x4 f11 hI c_1 o_2 c_3)
    · exact (ih _ _ _ (vX3_leftOut_7 s a1 a2 hp x2 x3 x4 f11 hI c_1 o_2 c_3)) x2 (i32 ((i32 (x3 * (s.2 6 0))) + (f11 x4))) (i32 (x4 + 1)) f11 rfl rfl rfl (vX3_leftOut_6 s a1 a2 hp x2 x3 x4 f11 hI c_1 o_2 c_3)
theorem ctX3_leftOut (b : AH) (s : MS) (a1 : Int) (a2 : Int) (hp : tOK (s.2 6) ∧ 0 ≤ a1 ∧ a1 ≤ 100000) : MC mX3_leftOut 2 b s [vI a1, vI a2] (QX3_leftOut s a1 a2) := by
  refine MC.of (by decide) rfl (Nat.le_of_ble_eq_true rfl) (JW.steq (s2 := sA s 11 (s.2 11)) (by simp only [sA_id, sS_id]) ?_)
  refine bX3_leftOut_0 b s a1 a2 (s.2 11) ?_
  have o_1 : (tOK (s.2 6) ∧ 0 ≤ a1 ∧ a1 ≤ 100000) := (vX3_leftOut_8 s a1 a2 hp)
  refine ⟨o_1, ?_⟩
  exact (allX3_leftOut b s a1 a2 hp _ _ _) a2 0 0 (figs ((s.2 6) 0) ((s.2 6) 1) a1 (s.2 11)) rfl rfl rfl (vX3_leftOut_9 s a1 a2 hp o_1)
