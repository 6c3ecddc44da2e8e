/-! contracts of the reference: laysRound gathers goesAll all -/
set_option maxRecDepth 100000
def HX3_laysRound_0 (Q : Option AV → MS → Prop) (b : AH) (s : MS) (x1 : Int) (f15 : Int → Int) (f16 : Int → Int) : Prop := MW mX3_laysRound 1 Q b 0 [(0, vR 351), (1, vI x1)] [] (sA (sA s 15 f15) 16 f16)
def HX3_laysRound_7 (Q : Option AV → MS → Prop) (b : AH) (s : MS) (x1 : Int) (x2 : Int) (x3 : Int) (x4 : Int) (f15 : Int → Int) (f16 : Int → Int) : Prop := MW mX3_laysRound 1 Q b 7 [(0, vR 351), (1, vI x1), (2, vI x2), (3, vI x3), (4, vI x4)] [] (sA (sA s 15 f15) 16 f16)
def HX3_laysRound_38 (Q : Option AV → MS → Prop) (b : AH) (s : MS) (x1 : Int) (x2 : Int) (x3 : Int) (x4 : Int) (f15 : Int → Int) (f16 : Int → Int) : Prop := MW mX3_laysRound 1 Q b 38 [(0, vR 351), (1, vI x1), (2, vI x2), (3, vI x3), (4, vI x4)] [] (sA (sA s 15 f15) 16 f16)
theorem bX3_laysRound_0 {Q : Option AV → MS → Prop} (b : AH) (s : MS) (x1 : Int) (f15 : Int → Int) (f16 : Int → Int) (K : HX3_laysRound_7 Q b s x1 x1 0 x1 f15 f16) : HX3_laysRound_0 Q b s x1 f15 f16 := by
  refine JW.iload_n dX3_laysRound_0 rfl ?_
  refine JW.istore_n (ls' := [(0, vR 351), (1, vI x1), (2, vI x1)]) dX3_laysRound_1 (Nat.le_of_ble_eq_true rfl) rfl ?_
  refine JW.iconst dX3_laysRound_2 rfl ?_
  refine JW.istore_n (ls' := [(0, vR 351), (1, vI x1), (2, vI x1), (3, vI 0)]) dX3_laysRound_3 (Nat.le_of_ble_eq_true rfl) rfl ?_
  refine JW.iload_n dX3_laysRound_4 rfl ?_
  refine JW.istore (ls' := [(0, vR 351), (1, vI x1), (2, vI x1), (3, vI 0), (4, vI x1)]) dX3_laysRound_5 (Nat.le_of_ble_eq_true rfl) rfl ?_
  exact JW.pick [0, 1, 2, 3, 4] rfl K
theorem bX3_laysRound_7 {Q : Option AV → MS → Prop} (b : AH) (s : MS) (x1 : Int) (x2 : Int) (x3 : Int) (x4 : Int) (f15 : Int → Int) (f16 : Int → Int) (K : (x2 ≤ x4 → (0 ≤ x4 ∧ x4 < 10000) ∧ ((¬ (s.2 13 x4) = x1 → HX3_laysRound_7 Q b s x1 x2 (i32 (x3 + 1)) (s.2 13 x4) f15 f16) ∧ ((s.2 13 x4) = x1 → HX3_laysRound_38 Q b s x1 x2 (i32 (x3 + 1)) (s.2 13 x4) f15 f16))) ∧ (¬ x2 ≤ x4 → (0 ≤ x4 ∧ x4 < 10000) ∧ ((¬ (s.2 13 x4) = x1 → HX3_laysRound_7 Q b s x1 x4 (i32 (x3 + 1)) (s.2 13 x4) f15 f16) ∧ ((s.2 13 x4) = x1 → HX3_laysRound_38 Q b s x1 x4 (i32 (x3 + 1)) (s.2 13 x4) f15 f16)))) : HX3_laysRound_7 Q b s x1 x2 x3 x4 f15 f16 := by
  refine JW.iload dX3_laysRound_7 rfl ?_
  refine JW.iload_n dX3_laysRound_9 rfl ?_
  refine JW.icmp_ge (tgt := 18) dX3_laysRound_10 rfl (fun c_1 => ?_) (fun c_1 => ?_)
  · have K := K.1 c_1
    refine JW.iload_n dX3_laysRound_18 rfl ?_
    refine JW.istore_n (ls' := [(0, vR 351), (1, vI x1), (2, vI x2), (3, vI x3), (4, vI x4)]) dX3_laysRound_19 (Nat.le_of_ble_eq_true rfl) rfl ?_
    refine JW.iinc (ls' := [(0, vR 351), (1, vI x1), (2, vI x2), (3, vI (i32 (x3 + 1))), (4, vI x4)]) dX3_laysRound_20 (Nat.le_of_ble_eq_true rfl) rfl rfl ?_
    refine JW.aload_n dX3_laysRound_23 rfl ?_
    refine JW.mget (v := vR 365) dX3_laysRound_24 fX3_56 rfl ?_
    refine JW.iload dX3_laysRound_27 rfl ?_
    obtain ⟨o_2, K⟩ := K
    refine JW.mald 13 (x := (s.2 13 x4)) dX3_laysRound_29 (Nat.le_of_ble_eq_true rfl) rfl o_2.1 o_2.2 rfl ?_
    refine JW.istore (ls' := [(0, vR 351), (1, vI x1), (2, vI x2), (3, vI (i32 (x3 + 1))), (4, vI (s.2 13 x4))]) dX3_laysRound_30 (Nat.le_of_ble_eq_true rfl) rfl ?_
    refine JW.iload dX3_laysRound_32 rfl ?_
    refine JW.iload_n dX3_laysRound_34 rfl ?_
    refine JW.icmp_ne (tgt := 7) dX3_laysRound_35 rfl (fun c_3 => ?_) (fun c_3 => ?_)
    · have K := K.1 c_3
      exact JW.pick [0, 1, 2, 3, 4] rfl K
    · have K := K.2 c_3
      exact JW.pick [0, 1, 2, 3, 4] rfl K
  · have K := K.2 c_1
    refine JW.iload dX3_laysRound_13 rfl ?_
    refine JW.goto (tgt := 19) dX3_laysRound_15 rfl ?_
    refine JW.istore_n (ls' := [(0, vR 351), (1, vI x1), (2, vI x4), (3, vI x3), (4, vI x4)]) dX3_laysRound_19 (Nat.le_of_ble_eq_true rfl) rfl ?_
    refine JW.iinc (ls' := [(0, vR 351), (1, vI x1), (2, vI x4), (3, vI (i32 (x3 + 1))), (4, vI x4)]) dX3_laysRound_20 (Nat.le_of_ble_eq_true rfl) rfl rfl ?_
    refine JW.aload_n dX3_laysRound_23 rfl ?_
    refine JW.mget (v := vR 365) dX3_laysRound_24 fX3_56 rfl ?_
    refine JW.iload dX3_laysRound_27 rfl ?_
    obtain ⟨o_4, K⟩ := K
    refine JW.mald 13 (x := (s.2 13 x4)) dX3_laysRound_29 (Nat.le_of_ble_eq_true rfl) rfl o_4.1 o_4.2 rfl ?_
    refine JW.istore (ls' := [(0, vR 351), (1, vI x1), (2, vI x4), (3, vI (i32 (x3 + 1))), (4, vI (s.2 13 x4))]) dX3_laysRound_30 (Nat.le_of_ble_eq_true rfl) rfl ?_
    refine JW.iload dX3_laysRound_32 rfl ?_
    refine JW.iload_n dX3_laysRound_34 rfl ?_
    refine JW.icmp_ne (tgt := 7) dX3_laysRound_35 rfl (fun c_5 => ?_) (fun c_5 => ?_)
    · have K := K.1 c_5
      exact JW.pick [0, 1, 2, 3, 4] rfl K
    · have K := K.2 c_5
      exact JW.pick [0, 1, 2, 3, 4] rfl K
theorem bX3_laysRound_38 {Q : Option AV → MS → Prop} (b : AH) (s : MS) (x1 : Int) (x2 : Int) (x3 : Int) (x4 : Int) (f15 : Int → Int) (f16 : Int → Int) (K : (0 ≤ x4 ∧ x4 < 10000) ∧ ((¬ (s.2 13 x4) = x1 → HX3_laysRound_38 Q b s x1 x2 x3 (s.2 13 x4) (upI f15 x4 x2) (upI f16 x4 x3)) ∧ ((s.2 13 x4) = x1 → Q none (sA (sA s 15 (upI f15 x4 x2)) 16 (upI f16 x4 x3))))) : HX3_laysRound_38 Q b s x1 x2 x3 x4 f15 f16 := by
  refine JW.aload_n dX3_laysRound_38 rfl ?_
  refine JW.mget (v := vR 367) dX3_laysRound_39 fX3_62 rfl ?_
  refine JW.iload dX3_laysRound_42 rfl ?_
  refine JW.iload_n dX3_laysRound_44 rfl ?_
  obtain ⟨o_1, K⟩ := K
  refine JW.mast 15 (f := f15) dX3_laysRound_45 (Nat.le_of_ble_eq_true rfl) rfl o_1.1 o_1.2 rfl ?_
  refine JW.steq (s2 := sA (sA s 15 (upI f15 x4 x2)) 16 f16) (by simp only [sA_A, sS_S, sA_S, sA_lt, sS_lt, Nat.reduceLT, id_eq] <;> rfl) ?_
  refine JW.aload_n dX3_laysRound_46 rfl ?_
  refine JW.mget (v := vR 368) dX3_laysRound_47 fX3_65 rfl ?_
  refine JW.iload dX3_laysRound_50 rfl ?_
  refine JW.iload_n dX3_laysRound_52 rfl ?_
  refine JW.mast 16 (f := f16) dX3_laysRound_53 (Nat.le_of_ble_eq_true rfl) rfl o_1.1 o_1.2 rfl ?_
  refine JW.steq (s2 := sA (sA s 15 (upI f15 x4 x2)) 16 (upI f16 x4 x3)) (by simp only [sA_A, sS_S, sA_S, sA_lt, sS_lt, Nat.reduceLT, id_eq] <;> rfl) ?_
  refine JW.aload_n dX3_laysRound_54 rfl ?_
  refine JW.mget (v := vR 365) dX3_laysRound_55 fX3_56 rfl ?_
  refine JW.iload dX3_laysRound_58 rfl ?_
  refine JW.mald 13 (x := (s.2 13 x4)) dX3_laysRound_60 (Nat.le_of_ble_eq_true rfl) rfl o_1.1 o_1.2 rfl ?_
  refine JW.istore (ls' := [(0, vR 351), (1, vI x1), (2, vI x2), (3, vI x3), (4, vI (s.2 13 x4))]) dX3_laysRound_61 (Nat.le_of_ble_eq_true rfl) rfl ?_
  refine JW.iload dX3_laysRound_63 rfl ?_
  refine JW.iload_n dX3_laysRound_65 rfl ?_
  refine JW.icmp_ne (tgt := 38) dX3_laysRound_66 rfl (fun c_2 => ?_) (fun c_2 => ?_)
  · have K := K.1 c_2
    exact JW.pick [0, 1, 2, 3, 4] rfl K
  · have K := K.2 c_2
    exact JW.vreturn dX3_laysRound_69 rfl ⟨_, rfl, K⟩
def QX3_laysRound (s : MS) (a1 : Int) : Option AV → MS → Prop := fun v s' => v = none ∧ s' = sA (sA s 15 (layO (orb (s.2 13) a1) (hm (s.2 13) a1) (s.2 15))) 16 (layO (orb (s.2 13) a1) (rg (s.2 13) a1) (s.2 16))
theorem vX3_laysRound_1 (s : MS) (a1 : Int) (hp : rng (s.2 13) ((s.2 6) 2) ∧ 0 ≤ (s.2 6) 2 ∧ (s.2 6) 2 ≤ 10000 ∧ 0 ≤ a1 ∧ a1 < (s.2 6) 2 ∧ cyc (s.2 13) a1) (x1 : Int) (x2 : Int) (x3 : Int) (x4 : Int) (f15 : Int → Int) (f16 : Int → Int) (hI : x1 = a1 ∧ f15 = s.2 15 ∧ f16 = s.2 16 ∧ RD (s.2 13) (s.2 6 2) a1 x2 x3 x4) (c_1 : x2 ≤ x4) : (0 ≤ x4 ∧ x4 < 10000) := by
  obtain ⟨hg, hN0, hN1, h0, h1, hc⟩ := hp
  have hr := hI.2.2.2.2.2.1
  omega
theorem vX3_laysRound_2 (s : MS) (a1 : Int) (hp : rng (s.2 13) ((s.2 6) 2) ∧ 0 ≤ (s.2 6) 2 ∧ (s.2 6) 2 ≤ 10000 ∧ 0 ≤ a1 ∧ a1 < (s.2 6) 2 ∧ cyc (s.2 13) a1) (x1 : Int) (x2 : Int) (x3 : Int) (x4 : Int) (f15 : Int → Int) (f16 : Int → Int) (hI : x1 = a1 ∧ f15 = s.2 15 ∧ f16 = s.2 16 ∧ RD (s.2 13) (s.2 6 2) a1 x2 x3 x4) (c_1 : x2 ≤ x4) (o_2 : (0 ≤ x4 ∧ x4 < 10000)) (c_3 : ¬ (s.2 13 x4) = x1) : x1 = a1 ∧ f15 = s.2 15 ∧ f16 = s.2 16 ∧ RD (s.2 13) (s.2 6 2) a1 x2 (i32 (x3 + 1)) (s.2 13 x4) := by
  obtain ⟨hg, hN0, hN1, h0, h1, hc⟩ := hp
  have hr := rg_le hg h0 h1 hc
  have hb := hI.2.2.2.1
  rw [i32_id (by omega) (by omega)]
  exact ⟨hI.1, hI.2.1, hI.2.2.1, RD_s hg hc hI.2.2.2 (by omega) (by rw [← hI.1]; assumption)⟩
theorem vX3_laysRound_3 (s : MS) (a1 : Int) (hp : rng (s.2 13) ((s.2 6) 2) ∧ 0 ≤ (s.2 6) 2 ∧ (s.2 6) 2 ≤ 10000 ∧ 0 ≤ a1 ∧ a1 < (s.2 6) 2 ∧ cyc (s.2 13) a1) (x1 : Int) (x2 : Int) (x3 : Int) (x4 : Int) (f15 : Int → Int) (f16 : Int → Int) (hI : x1 = a1 ∧ f15 = s.2 15 ∧ f16 = s.2 16 ∧ RD (s.2 13) (s.2 6 2) a1 x2 x3 x4) (c_1 : x2 ≤ x4) (o_2 : (0 ≤ x4 ∧ x4 < 10000)) (c_3 : ¬ (s.2 13 x4) = x1) : lex3 0 1 ((rg (s.2 13) a1 - (i32 (x3 + 1))).toNat) 0 1 ((rg (s.2 13) a1 - x3).toNat) := by
  obtain ⟨hg, hN0, hN1, h0, h1, hc⟩ := hp
  have hr := rg_le hg h0 h1 hc
  have hb := hI.2.2.2.1
  unfold lex3
  rw [i32_id (by omega) (by omega)]
  omega
theorem vX3_laysRound_4 (s : MS) (a1 : Int) (hp : rng (s.2 13) ((s.2 6) 2) ∧ 0 ≤ (s.2 6) 2 ∧ (s.2 6) 2 ≤ 10000 ∧ 0 ≤ a1 ∧ a1 < (s.2 6) 2 ∧ cyc (s.2 13) a1) (x1 : Int) (x2 : Int) (x3 : Int) (x4 : Int) (f15 : Int → Int) (f16 : Int → Int) (hI : x1 = a1 ∧ f15 = s.2 15 ∧ f16 = s.2 16 ∧ RD (s.2 13) (s.2 6 2) a1 x2 x3 x4) (c_1 : x2 ≤ x4) (o_2 : (0 ≤ x4 ∧ x4 < 10000)) (c_3 : (s.2 13 x4) = x1) : x1 = a1 ∧ x2 = hm (s.2 13) a1 ∧ (i32 (x3 + 1)) = rg (s.2 13) a1 ∧ RE (s.2 13) (s.2 6 2) a1 f15 f16 (s.2 15) (s.2 16) (s.2 13 x4) := by
  obtain ⟨hg, hN0, hN1, h0, h1, hc⟩ := hp
  have hr := rg_le hg h0 h1 hc
  have hb := hI.2.2.2.1
  rw [hI.1] at *
  rw [i32_id (by omega) (by omega), hI.2.1, hI.2.2.1]
  have he := RD_e (l' := x2) hc hI.2.2.2 (by omega) (by assumption)
  have hy : s.2 13 x4 = a1 := by assumption
  rw [hy]
  exact ⟨rfl, he.1, he.2, RE_0 hc h0 h1⟩
theorem vX3_laysRound_5 (s : MS) (a1 : Int) (hp : rng (s.2 13) ((s.2 6) 2) ∧ 0 ≤ (s.2 6) 2 ∧ (s.2 6) 2 ≤ 10000 ∧ 0 ≤ a1 ∧ a1 < (s.2 6) 2 ∧ cyc (s.2 13) a1) (x1 : Int) (x2 : Int) (x3 : Int) (x4 : Int) (f15 : Int → Int) (f16 : Int → Int) (hI : x1 = a1 ∧ f15 = s.2 15 ∧ f16 = s.2 16 ∧ RD (s.2 13) (s.2 6 2) a1 x2 x3 x4) (c_1 : x2 ≤ x4) (o_2 : (0 ≤ x4 ∧ x4 < 10000)) (c_3 : (s.2 13 x4) = x1) : lex3 0 0 ((rg (s.2 13) a1).toNat - idx (s.2 13) a1 (s.2 13 x4)) 0 1 ((rg (s.2 13) a1 - x3).toNat) := by
  obtain ⟨hg, hN0, hN1, h0, h1, hc⟩ := hp
  unfold lex3
  omega
theorem vX3_laysRound_6 (s : MS) (a1 : Int) (hp : rng (s.2 13) ((s.2 6) 2) ∧ 0 ≤ (s.2 6) 2 ∧ (s.2 6) 2 ≤ 10000 ∧ 0 ≤ a1 ∧ a1 < (s.2 6) 2 ∧ cyc (s.2 13) a1) (x1 : Int) (x2 : Int) (x3 : Int) (x4 : Int) (f15 : Int → Int) (f16 : Int → Int) (hI : x1 = a1 ∧ f15 = s.2 15 ∧ f16 = s.2 16 ∧ RD (s.2 13) (s.2 6 2) a1 x2 x3 x4) (c_1 : ¬ x2 ≤ x4) : (0 ≤ x4 ∧ x4 < 10000) := by
  obtain ⟨hg, hN0, hN1, h0, h1, hc⟩ := hp
  have hr := hI.2.2.2.2.2.1
  omega
theorem vX3_laysRound_7 (s : MS) (a1 : Int) (hp : rng (s.2 13) ((s.2 6) 2) ∧ 0 ≤ (s.2 6) 2 ∧ (s.2 6) 2 ≤ 10000 ∧ 0 ≤ a1 ∧ a1 < (s.2 6) 2 ∧ cyc (s.2 13) a1) (x1 : Int) (x2 : Int) (x3 : Int) (x4 : Int) (f15 : Int → Int) (f16 : Int → Int) (hI : x1 = a1 ∧ f15 = s.2 15 ∧ f16 = s.2 16 ∧ RD (s.2 13) (s.2 6 2) a1 x2 x3 x4) (c_1 : ¬ x2 ≤ x4) (o_4 : (0 ≤ x4 ∧ x4 < 10000)) (c_5 : ¬ (s.2 13 x4) = x1) : x1 = a1 ∧ f15 = s.2 15 ∧ f16 = s.2 16 ∧ RD (s.2 13) (s.2 6 2) a1 x4 (i32 (x3 + 1)) (s.2 13 x4) := by
  obtain ⟨hg, hN0, hN1, h0, h1, hc⟩ := hp
  have hr := rg_le hg h0 h1 hc
  have hb := hI.2.2.2.1
  rw [i32_id (by omega) (by omega)]
  exact ⟨hI.1, hI.2.1, hI.2.2.1, RD_s hg hc hI.2.2.2 (by omega) (by rw [← hI.1]; assumption)⟩
theorem vX3_laysRound_8 (s : MS) (a1 : Int) (hp : rng (s.2 13) ((s.2 6) 2) ∧ 0 ≤ (s.2 6) 2 ∧ (s.2 6) 2 ≤ 10000 ∧ 0 ≤ a1 ∧ a1 < (s.2 6) 2 ∧ cyc (s.2 13) a1) (x1 : Int) (x2 : Int) (x3 : Int) (x4 : Int) (f15 : Int → Int) (f16 : Int → Int) (hI : x1 = a1 ∧ f15 = s.2 15 ∧ f16 = s.2 16 ∧ RD (s.2 13) (s.2 6 2) a1 x2 x3 x4) (c_1 : ¬ x2 ≤ x4) (o_4 : (0 ≤ x4 ∧ x4 < 10000)) (c_5 : ¬ (s.2 13 x4) = x1) : lex3 0 1 ((rg (s.2 13) a1 - (i32 (x3 + 1))).toNat) 0 1 ((rg (s.2 13) a1 - x3).toNat) := by
  obtain ⟨hg, hN0, hN1, h0, h1, hc⟩ := hp
  have hr := rg_le hg h0 h1 hc
  have hb := hI.2.2.2.1
  unfold lex3
  rw [i32_id (by omega) (by omega)]
  omega
theorem vX3_laysRound_9 (s : MS) (a1 : Int) (hp : rng (s.2 13) ((s.2 6) 2) ∧ 0 ≤ (s.2 6) 2 ∧ (s.2 6) 2 ≤ 10000 ∧ 0 ≤ a1 ∧ a1 < (s.2 6) 2 ∧ cyc (s.2 13) a1) (x1 : Int) (x2 : Int) (x3 : Int) (x4 : Int) (f15 : Int → Int) (f16 : Int → Int) (hI : x1 = a1 ∧ f15 = s.2 15 ∧ f16 = s.2 16 ∧ RD (s.2 13) (s.2 6 2) a1 x2 x3 x4) (c_1 : ¬ x2 ≤ x4) (o_4 : (0 ≤ x4 ∧ x4 < 10000)) (c_5 : (s.2 13 x4) = x1) : x1 = a1 ∧ x4 = hm (s.2 13) a1 ∧ (i32 (x3 + 1)) = rg (s.2 13) a1 ∧ RE (s.2 13) (s.2 6 2) a1 f15 f16 (s.2 15) (s.2 16) (s.2 13 x4) := by
  obtain ⟨hg, hN0, hN1, h0, h1, hc⟩ := hp
  have hr := rg_le hg h0 h1 hc
  have hb := hI.2.2.2.1
  rw [hI.1] at *
  rw [i32_id (by omega) (by omega), hI.2.1, hI.2.2.1]
  have he := RD_e (l' := x4) hc hI.2.2.2 (by omega) (by assumption)
  have hy : s.2 13 x4 = a1 := by assumption
  rw [hy]
  exact ⟨rfl, he.1, he.2, RE_0 hc h0 h1⟩
theorem vX3_laysRound_10 (s : MS) (a1 : Int) (hp : rng (s.2 13) ((s.2 6) 2) ∧ 0 ≤ (s.2 6) 2 ∧ (s.2 6) 2 ≤ 10000 ∧ 0 ≤ a1 ∧ a1 < (s.2 6) 2 ∧ cyc (s.2 13) a1) (x1 : Int) (x2 : Int) (x3 : Int) (x4 : Int) (f15 : Int → Int) (f16 : Int → Int) (hI : x1 = a1 ∧ f15 = s.2 15 ∧ f16 = s.2 16 ∧ RD (s.2 13) (s.2 6 2) a1 x2 x3 x4) (c_1 : ¬ x2 ≤ x4) (o_4 : (0 ≤ x4 ∧ x4 < 10000)) (c_5 : (s.2 13 x4) = x1) : lex3 0 0 ((rg (s.2 13) a1).toNat - idx (s.2 13) a1 (s.2 13 x4)) 0 1 ((rg (s.2 13) a1 - x3).toNat) := by
  obtain ⟨hg, hN0, hN1, h0, h1, hc⟩ := hp
  unfold lex3
  omega
theorem vX3_laysRound_11 (s : MS) (a1 : Int) (hp : rng (s.2 13) ((s.2 6) 2) ∧ 0 ≤ (s.2 6) 2 ∧ (s.2 6) 2 ≤ 10000 ∧ 0 ≤ a1 ∧ a1 < (s.2 6) 2 ∧ cyc (s.2 13) a1) (x1 : Int) (x2 : Int) (x3 : Int) (x4 : Int) (f15 : Int → Int) (f16 : Int → Int) (hI : x1 = a1 ∧ x2 = hm (s.2 13) a1 ∧ x3 = rg (s.2 13) a1 ∧ RE (s.2 13) (s.2 6 2) a1 f15 f16 (s.2 15) (s.2 16) x4) : (0 ≤ x4 ∧ x4 < 10000) := by
  obtain ⟨hg, hN0, hN1, h0, h1, hc⟩ := hp
  have hr := hI.2.2.2.1
  omega
theorem vX3_laysRound_12 (s : MS) (a1 : Int) (hp : rng (s.2 13) ((s.2 6) 2) ∧ 0 ≤ (s.2 6) 2 ∧ (s.2 6) 2 ≤ 10000 ∧ 0 ≤ a1 ∧ a1 < (s.2 6) 2 ∧ cyc (s.2 13) a1) (x1 : Int) (x2 : Int) (x3 : Int) (x4 : Int) (f15 : Int → Int) (f16 : Int → Int) (hI : x1 = a1 ∧ x2 = hm (s.2 13) a1 ∧ x3 = rg (s.2 13) a1 ∧ RE (s.2 13) (s.2 6 2) a1 f15 f16 (s.2 15) (s.2 16) x4) (o_1 : (0 ≤ x4 ∧ x4 < 10000)) (c_2 : ¬ (s.2 13 x4) = x1) : x1 = a1 ∧ x2 = hm (s.2 13) a1 ∧ x3 = rg (s.2 13) a1 ∧ RE (s.2 13) (s.2 6 2) a1 (upI f15 x4 x2) (upI f16 x4 x3) (s.2 15) (s.2 16) (s.2 13 x4) := by
  obtain ⟨hg, hN0, hN1, h0, h1, hc⟩ := hp
  rw [hI.1] at c_2
  rw [hI.2.1, hI.2.2.1]
  exact ⟨hI.1, rfl, rfl, (RE_s hg hc hI.2.2.2 c_2).1⟩
theorem vX3_laysRound_13 (s : MS) (a1 : Int) (hp : rng (s.2 13) ((s.2 6) 2) ∧ 0 ≤ (s.2 6) 2 ∧ (s.2 6) 2 ≤ 10000 ∧ 0 ≤ a1 ∧ a1 < (s.2 6) 2 ∧ cyc (s.2 13) a1) (x1 : Int) (x2 : Int) (x3 : Int) (x4 : Int) (f15 : Int → Int) (f16 : Int → Int) (hI : x1 = a1 ∧ x2 = hm (s.2 13) a1 ∧ x3 = rg (s.2 13) a1 ∧ RE (s.2 13) (s.2 6 2) a1 f15 f16 (s.2 15) (s.2 16) x4) (o_1 : (0 ≤ x4 ∧ x4 < 10000)) (c_2 : ¬ (s.2 13 x4) = x1) : lex3 0 0 ((rg (s.2 13) a1).toNat - idx (s.2 13) a1 (s.2 13 x4)) 0 0 ((rg (s.2 13) a1).toNat - idx (s.2 13) a1 x4) := by
  obtain ⟨hg, hN0, hN1, h0, h1, hc⟩ := hp
  rw [hI.1] at c_2
  have := (RE_s hg hc hI.2.2.2 c_2).2
  unfold lex3
  omega
theorem vX3_laysRound_14 (s : MS) (a1 : Int) (hp : rng (s.2 13) ((s.2 6) 2) ∧ 0 ≤ (s.2 6) 2 ∧ (s.2 6) 2 ≤ 10000 ∧ 0 ≤ a1 ∧ a1 < (s.2 6) 2 ∧ cyc (s.2 13) a1) (x1 : Int) (x2 : Int) (x3 : Int) (x4 : Int) (f15 : Int → Int) (f16 : Int → Int) (hI : x1 = a1 ∧ x2 = hm (s.2 13) a1 ∧ x3 = rg (s.2 13) a1 ∧ RE (s.2 13) (s.2 6 2) a1 f15 f16 (s.2 15) (s.2 16) x4) (o_1 : (0 ≤ x4 ∧ x4 < 10000)) (c_2 : (s.2 13 x4) = x1) : (upI f15 x4 x2) = (layO (orb (s.2 13) a1) (hm (s.2 13) a1) (s.2 15)) := by
  obtain ⟨hg, hN0, hN1, h0, h1, hc⟩ := hp
  rw [hI.1] at c_2
  rw [hI.2.1]
  exact (RE_e hc hI.2.2.2 c_2).1
theorem vX3_laysRound_15 (s : MS) (a1 : Int) (hp : rng (s.2 13) ((s.2 6) 2) ∧ 0 ≤ (s.2 6) 2 ∧ (s.2 6) 2 ≤ 10000 ∧ 0 ≤ a1 ∧ a1 < (s.2 6) 2 ∧ cyc (s.2 13) a1) (x1 : Int) (x2 : Int) (x3 : Int) (x4 : Int) (f15 : Int → Int) (f16 : Int → Int) (hI : x1 = a1 ∧ x2 = hm (s.2 13) a1 ∧ x3 = rg (s.2 13) a1 ∧ RE (s.2 13) (s.2 6 2) a1 f15 f16 (s.2 15) (s.2 16) x4) (o_1 : (0 ≤ x4 ∧ x4 < 10000)) (c_2 : (s.2 13 x4) = x1) : (upI f16 x4 x3) = (layO (orb (s.2 13) a1) (rg (s.2 13) a1) (s.2 16)) := by
  obtain ⟨hg, hN0, hN1, h0, h1, hc⟩ := hp
  rw [hI.1] at c_2
  rw [hI.2.2.1]
  exact (RE_e hc hI.2.2.2 c_2).2
theorem vX3_laysRound_16 (s : MS) (a1 : Int) (hp : rng (s.2 13) ((s.2 6) 2) ∧ 0 ≤ (s.2 6) 2 ∧ (s.2 6) 2 ≤ 10000 ∧ 0 ≤ a1 ∧ a1 < (s.2 6) 2 ∧ cyc (s.2 13) a1) : a1 = a1 ∧ (s.2 15) = s.2 15 ∧ (s.2 16) = s.2 16 ∧ RD (s.2 13) (s.2 6 2) a1 a1 (0 : Int) a1 := by
  obtain ⟨hg, hN0, hN1, h0, h1, hc⟩ := hp
  exact ⟨rfl, rfl, rfl, RD_0 hc h0 h1⟩
theorem allX3_laysRound (b : AH) (s : MS) (a1 : Int) (hp : rng (s.2 13) ((s.2 6) 2) ∧ 0 ≤ (s.2 6) 2 ∧ (s.2 6) 2 ≤ 10000 ∧ 0 ≤ a1 ∧ a1 < (s.2 6) 2 ∧ cyc (s.2 13) a1) : ∀ m1 m2 m3 : Nat, (∀ (x1 : Int) (x2 : Int) (x3 : Int) (x4 : Int) (f15 : Int → Int) (f16 : Int → Int), m1 = 0 → m2 = 1 → m3 = ((rg (s.2 13) a1 - x3).toNat) → (x1 = a1 ∧ f15 = s.2 15 ∧ f16 = s.2 16 ∧ RD (s.2 13) (s.2 6 2) a1 x2 x3 x4) → HX3_laysRound_7 (QX3_laysRound s a1) b s x1 x2 x3 x4 f15 f16) ∧ (∀ (x1 : Int) (x2 : Int) (x3 : Int) (x4 : Int) (f15 : Int → Int) (f16 : Int → Int), m1 = 0 → m2 = 0 → m3 = ((rg (s.2 13) a1).toNat - idx (s.2 13) a1 x4) → (x1 = a1 ∧ x2 = hm (s.2 13) a1 ∧ x3 = rg (s.2 13) a1 ∧ RE (s.2 13) (s.2 6 2) a1 f15 f16 (s.2 15) (s.2 16) x4) → HX3_laysRound_38 (QX3_laysRound s a1) b s x1 x2 x3 x4 f15 f16) := by
  refine lex3_ind ?_
  intro m1 m2 m3 ih
  refine ⟨?_, ?_⟩
  · rintro x1 x2 x3 x4 f15 f16 rfl rfl rfl hI
    refine bX3_laysRound_7 b s x1 x2 x3 x4 f15 f16 ?_
    refine ⟨fun c_1 => ?_, fun c_1 => ?_⟩
    · have o_2 : (0 ≤ x4 ∧ x4 < 10000) := (vX3_laysRound_1 s a1 hp x1 x2 x3 x4 f15 f16 hI c_1)
      refine ⟨o_2, ?_⟩
      refine ⟨fun c_3 => ?_, fun c_3 => ?_⟩
      · exact (ih _ _ _ (vX3_laysRound_3 s a1 hp x1 x2 x3 x4 f15 f16 hI c_1 o_2 c_3)).1 x1 x2 (i32 (x3 + 1)) (s.2 13 x4) f15 f16 rfl rfl rfl (vX3_laysRound_2 s a1 hp x1 x2 x3 x4 f15 f16 hI c_1 o_2 c_3)
      · exact (ih _ _ _ (vX3_laysRound_5 s a1 hp x1 x2 x3 x4 f15 f16 hI c_1 o_2 c_3)).2 x1 x2 (i32 (x3 + 1)) (s.2 13 x4) f15 f16 rfl rfl rfl (vX3_laysRound_4 s a1 hp x1 x2 x3 x4 f15 f16 hI c_1 o_2 c_3)
    · have o_4 : (0 ≤ x4 ∧ x4 < 10000) := (vX3_laysRound_6 s a1 hp x1 x2 x3 x4 f15 f16 hI c_1)
      refine ⟨o_4, ?_⟩
      refine ⟨fun c_5 => ?_, fun c_5 => ?_⟩
      · exact (ih _ _ _ (vX3_laysRound_8 s a1 hp x1 x2 x3 x4 f15 f16 hI c_1 o_4 c_5)).1 x1 x4 (i32 (x3 + 1)) (s.2 13 x4) f15 f16 rfl rfl rfl (vX3_laysRound_7 s a1 hp x1 x2 x3 x4 f15 f16 hI c_1 o_4 c_5)
      · exact (ih _ _ _ (vX3_laysRound_10 s a1 hp x1 x2 x3 x4 f15 f16 hI c_1 o_4 c_5)).2 x1 x4 (i32 (x3 + 1)) (s.2 13 x4) f15 f16 rfl rfl rfl (vX3_laysRound_9 s a1 hp x1 x2 x3 x4 f15 f16 hI c_1 o_4 c_5)
  · rintro x1 x2 x3 x4 f15 f16 rfl rfl rfl hI
    refine bX3_laysRound_38 b s x1 x2 x3 x4 f15 f16 ?_
    have o_1 : (0 ≤ x4 ∧ x4 < 10000) := (vX3_laysRound_11 s a1 hp x1 x2 x3 x4 f15 f16 hI)
    refine ⟨o_1, ?_⟩
    refine ⟨fun c_2 => ?_, fun c_2 => ?_⟩
    · exact (ih _ _ _ (vX3_laysRound_13 s a1 hp x1 x2 x3 x4 f15 f16 hI o_1 c_2)).2 x1 x2 x3 (s.2 13 x4) (upI f15 x4 x2) (upI f16 x4 x3) rfl rfl rfl (vX3_laysRound_12 s a1 hp x1 x2 x3 x4 f15 f16 hI o_1 c_2)
    · exact ⟨rfl, (sA_c (sA_c rfl (vX3_laysRound_14 s a1 hp x1 x2 x3 x4 f15 f16 hI o_1 c_2)) (vX3_laysRound_15 s a1 hp x1 x2 x3 x4 f15 f16 hI o_1 c_2))⟩
theorem ctX3_laysRound (b : AH) (s : MS) (a1 : Int) (hp : rng (s.2 13) ((s.2 6) 2) ∧ 0 ≤ (s.2 6) 2 ∧ (s.2 6) 2 ≤ 10000 ∧ 0 ≤ a1 ∧ a1 < (s.2 6) 2 ∧ cyc (s.2 13) a1) : MC mX3_laysRound 1 b s [vI a1] (QX3_laysRound s a1) := by
  refine MC.of (by decide) rfl (Nat.le_of_ble_eq_true rfl) (JW.steq (s2 := sA (sA s 15 (s.2 15)) 16 (s.2 16)) (by simp only [sA_id, sS_id]) ?_)
  refine bX3_laysRound_0 b s a1 (s.2 15) (s.2 16) ?_
  exact (allX3_laysRound b s a1 hp _ _ _).1 a1 a1 0 a1 (s.2 15) (s.2 16) rfl rfl rfl (vX3_laysRound_16 s a1 hp)
def HX3_gathers_0 (Q : Option AV → MS → Prop) (b : AH) (s : MS) (f14 : Int → Int) (f15 : Int → Int) (f16 : Int → Int) (f17 : Int → Int) : Prop := MW mX3_gathers 2 Q b 0 [(0, vR 351)] [] (sA (sA (sA (sA s 14 f14) 15 f15) 16 f16) 17 f17)
def HX3_gathers_2 (Q : Option AV → MS → Prop) (b : AH) (s : MS) (x1 : Int) (f14 : Int → Int) (f15 : Int → Int) (f16 : Int → Int) (f17 : Int → Int) : Prop := MW mX3_gathers 2 Q b 2 [(0, vR 351), (1, vI x1)] [] (sA (sA (sA (sA s 14 f14) 15 f15) 16 f16) 17 f17)
def HX3_gathers_34 (Q : Option AV → MS → Prop) (b : AH) (s : MS) (x1 : Int) (f14 : Int → Int) (f15 : Int → Int) (f16 : Int → Int) (f17 : Int → Int) : Prop := MW mX3_gathers 2 Q b 34 [(0, vR 351), (1, vI x1)] [] (sA (sA (sA (sA s 14 f14) 15 f15) 16 f16) 17 f17)
def HX3_gathers_59 (Q : Option AV → MS → Prop) (b : AH) (s : MS) (x1 : Int) (x2 : Int) (f14 : Int → Int) (f15 : Int → Int) (f16 : Int → Int) (f17 : Int → Int) : Prop := MW mX3_gathers 2 Q b 59 [(0, vR 351), (1, vI x1), (2, vI x2)] [] (sA (sA (sA (sA s 14 f14) 15 f15) 16 f16) 17 f17)
def HX3_gathers_119 (Q : Option AV → MS → Prop) (b : AH) (s : MS) (x1 : Int) (f14 : Int → Int) (f15 : Int → Int) (f16 : Int → Int) (f17 : Int → Int) : Prop := MW mX3_gathers 2 Q b 119 [(0, vR 351), (1, vI x1)] [] (sA (sA (sA (sA s 14 f14) 15 f15) 16 f16) 17 f17)
def HX3_gathers_133 (Q : Option AV → MS → Prop) (b : AH) (s : MS) (x1 : Int) (x2 : Int) (x3 : Int) (f14 : Int → Int) (f15 : Int → Int) (f16 : Int → Int) (f17 : Int → Int) : Prop := MW mX3_gathers 2 Q b 133 [(0, vR 351), (1, vI x1), (2, vI x2), (3, vI x3)] [] (sA (sA (sA (sA s 14 f14) 15 f15) 16 f16) 17 f17)
theorem bX3_gathers_0 {Q : Option AV → MS → Prop} (b : AH) (s : MS) (f14 : Int → Int) (f15 : Int → Int) (f16 : Int → Int) (f17 : Int → Int) (K : HX3_gathers_2 Q b s 0 f14 f15 f16 f17) : HX3_gathers_0 Q b s f14 f15 f16 f17 := by
  refine JW.iconst dX3_gathers_0 rfl ?_
  refine JW.istore_n (ls' := [(0, vR 351), (1, vI 0)]) dX3_gathers_1 (Nat.le_of_ble_eq_true rfl) rfl ?_
  exact JW.pick [0, 1] rfl K
theorem bX3_gathers_2 {Q : Option AV → MS → Prop} (b : AH) (s : MS) (x1 : Int) (f14 : Int → Int) (f15 : Int → Int) (f16 : Int → Int) (f17 : Int → Int) (K : ((s.2 6 2) ≤ x1 → HX3_gathers_34 Q b s 0 f14 f15 f16 f17) ∧ (¬ (s.2 6 2) ≤ x1 → (0 ≤ x1 ∧ x1 < 10000) ∧ (HX3_gathers_2 Q b s (i32 (x1 + 1)) f14 (upI f15 x1 (-1)) f16 (upI f17 x1 (-1))))) : HX3_gathers_2 Q b s x1 f14 f15 f16 f17 := by
  refine JW.iload_n dX3_gathers_2 rfl ?_
  refine JW.aload_n dX3_gathers_3 rfl ?_
  refine JW.mget (v := vR 358) dX3_gathers_4 fX3_34 rfl ?_
  refine JW.iconst dX3_gathers_7 rfl ?_
  refine JW.mald 6 (x := (s.2 6 2)) dX3_gathers_8 (Nat.le_of_ble_eq_true rfl) rfl (by decide) (by decide) rfl ?_
  refine JW.icmp_ge (tgt := 32) dX3_gathers_9 rfl (fun c_1 => ?_) (fun c_1 => ?_)
  · have K := K.1 c_1
    refine JW.iconst dX3_gathers_32 rfl ?_
    refine JW.istore_n (ls' := [(0, vR 351), (1, vI 0)]) dX3_gathers_33 (Nat.le_of_ble_eq_true rfl) rfl ?_
    exact JW.pick [0, 1] rfl K
  · have K := K.2 c_1
    refine JW.aload_n dX3_gathers_12 rfl ?_
    refine JW.mget (v := vR 369) dX3_gathers_13 fX3_68 rfl ?_
    refine JW.iload_n dX3_gathers_16 rfl ?_
    refine JW.iconst dX3_gathers_17 rfl ?_
    obtain ⟨o_2, K⟩ := K
    refine JW.mast 17 (f := f17) dX3_gathers_18 (Nat.le_of_ble_eq_true rfl) rfl o_2.1 o_2.2 rfl ?_
    refine JW.steq (s2 := sA (sA (sA (sA s 14 f14) 15 f15) 16 f16) 17 (upI f17 x1 (-1))) (by simp only [sA_A, sS_S, sA_S, sA_lt, sS_lt, Nat.reduceLT, id_eq] <;> rfl) ?_
    refine JW.aload_n dX3_gathers_19 rfl ?_
    refine JW.mget (v := vR 367) dX3_gathers_20 fX3_62 rfl ?_
    refine JW.iload_n dX3_gathers_23 rfl ?_
    refine JW.iconst dX3_gathers_24 rfl ?_
    refine JW.mast 15 (f := f15) dX3_gathers_25 (Nat.le_of_ble_eq_true rfl) rfl o_2.1 o_2.2 rfl ?_
    refine JW.steq (s2 := sA (sA (sA (sA s 14 f14) 15 (upI f15 x1 (-1))) 16 f16) 17 (upI f17 x1 (-1))) (by simp only [sA_A, sS_S, sA_S, sA_lt, sS_lt, Nat.reduceLT, id_eq] <;> rfl) ?_
    refine JW.iinc (ls' := [(0, vR 351), (1, vI (i32 (x1 + 1)))]) dX3_gathers_26 (Nat.le_of_ble_eq_true rfl) rfl rfl ?_
    refine JW.goto (tgt := 2) dX3_gathers_29 rfl ?_
    exact JW.pick [0, 1] rfl K
theorem bX3_gathers_34 {Q : Option AV → MS → Prop} (b : AH) (s : MS) (x1 : Int) (f14 : Int → Int) (f15 : Int → Int) (f16 : Int → Int) (f17 : Int → Int) (K : ((s.2 6 2) ≤ x1 → HX3_gathers_119 Q b s 0 f14 f15 f16 f17) ∧ (¬ (s.2 6 2) ≤ x1 → (0 ≤ x1 ∧ x1 < 10000) ∧ (((f17 x1) = (-1) → HX3_gathers_59 Q b s x1 x1 f14 f15 f16 f17) ∧ (¬ (f17 x1) = (-1) → HX3_gathers_34 Q b s (i32 (x1 + 1)) f14 f15 f16 f17)))) : HX3_gathers_34 Q b s x1 f14 f15 f16 f17 := by
  refine JW.iload_n dX3_gathers_34 rfl ?_
  refine JW.aload_n dX3_gathers_35 rfl ?_
  refine JW.mget (v := vR 358) dX3_gathers_36 fX3_34 rfl ?_
  refine JW.iconst dX3_gathers_39 rfl ?_
  refine JW.mald 6 (x := (s.2 6 2)) dX3_gathers_40 (Nat.le_of_ble_eq_true rfl) rfl (by decide) (by decide) rfl ?_
  refine JW.icmp_ge (tgt := 117) dX3_gathers_41 rfl (fun c_1 => ?_) (fun c_1 => ?_)
  · have K := K.1 c_1
    refine JW.iconst dX3_gathers_117 rfl ?_
    refine JW.istore_n (ls' := [(0, vR 351), (1, vI 0)]) dX3_gathers_118 (Nat.le_of_ble_eq_true rfl) rfl ?_
    exact JW.pick [0, 1] rfl K
  · have K := K.2 c_1
    refine JW.aload_n dX3_gathers_44 rfl ?_
    refine JW.mget (v := vR 369) dX3_gathers_45 fX3_68 rfl ?_
    refine JW.iload_n dX3_gathers_48 rfl ?_
    obtain ⟨o_2, K⟩ := K
    refine JW.mald 17 (x := (f17 x1)) dX3_gathers_49 (Nat.le_of_ble_eq_true rfl) rfl o_2.1 o_2.2 rfl ?_
    refine JW.iconst dX3_gathers_50 rfl ?_
    refine JW.icmp_eq (tgt := 57) dX3_gathers_51 rfl (fun c_3 => ?_) (fun c_3 => ?_)
    · have K := K.1 c_3
      refine JW.iload_n dX3_gathers_57 rfl ?_
      refine JW.istore_n (ls' := [(0, vR 351), (1, vI x1), (2, vI x1)]) dX3_gathers_58 (Nat.le_of_ble_eq_true rfl) rfl ?_
      exact JW.pick [0, 1, 2] rfl K
    · have K := K.2 c_3
      refine JW.goto (tgt := 111) dX3_gathers_54 rfl ?_
      refine JW.iinc (ls' := [(0, vR 351), (1, vI (i32 (x1 + 1)))]) dX3_gathers_111 (Nat.le_of_ble_eq_true rfl) rfl rfl ?_
      refine JW.goto (tgt := 34) dX3_gathers_114 rfl ?_
      exact JW.pick [0, 1] rfl K
theorem bX3_gathers_59 {Q : Option AV → MS → Prop} (b : AH) (s : MS) (x1 : Int) (x2 : Int) (f14 : Int → Int) (f15 : Int → Int) (f16 : Int → Int) (f17 : Int → Int) (K : (0 ≤ x2 ∧ x2 < 10000) ∧ ((¬ (f17 x2) = (-1) → (¬ (f17 x2) = x1 → HX3_gathers_34 Q b s (i32 (x1 + 1)) f14 f15 f16 f17) ∧ ((f17 x2) = x1 → (¬ (f15 x2) = (-1) → HX3_gathers_34 Q b s (i32 (x1 + 1)) f14 f15 f16 f17) ∧ ((f15 x2) = (-1) → (rng (s.2 13) ((s.2 6) 2) ∧ 0 ≤ (s.2 6) 2 ∧ (s.2 6) 2 ≤ 10000 ∧ 0 ≤ x2 ∧ x2 < (s.2 6) 2 ∧ cyc (s.2 13) x2) ∧ (HX3_gathers_34 Q b s (i32 (x1 + 1)) f14 (layO (orb (s.2 13) x2) (hm (s.2 13) x2) f15) (layO (orb (s.2 13) x2) (rg (s.2 13) x2) f16) f17)))) ∧ ((f17 x2) = (-1) → HX3_gathers_59 Q b s x1 (s.2 13 x2) f14 f15 f16 (upI f17 x2 x1)))) : HX3_gathers_59 Q b s x1 x2 f14 f15 f16 f17 := by
  refine JW.aload_n dX3_gathers_59 rfl ?_
  refine JW.mget (v := vR 369) dX3_gathers_60 fX3_68 rfl ?_
  refine JW.iload_n dX3_gathers_63 rfl ?_
  obtain ⟨o_1, K⟩ := K
  refine JW.mald 17 (x := (f17 x2)) dX3_gathers_64 (Nat.le_of_ble_eq_true rfl) rfl o_1.1 o_1.2 rfl ?_
  refine JW.iconst dX3_gathers_65 rfl ?_
  refine JW.icmp_ne (tgt := 86) dX3_gathers_66 rfl (fun c_2 => ?_) (fun c_2 => ?_)
  · have K := K.1 c_2
    refine JW.aload_n dX3_gathers_86 rfl ?_
    refine JW.mget (v := vR 369) dX3_gathers_87 fX3_68 rfl ?_
    refine JW.iload_n dX3_gathers_90 rfl ?_
    refine JW.mald 17 (x := (f17 x2)) dX3_gathers_91 (Nat.le_of_ble_eq_true rfl) rfl o_1.1 o_1.2 rfl ?_
    refine JW.iload_n dX3_gathers_92 rfl ?_
    refine JW.icmp_ne (tgt := 111) dX3_gathers_93 rfl (fun c_3 => ?_) (fun c_3 => ?_)
    · have K := K.1 c_3
      refine JW.iinc (ls' := [(0, vR 351), (1, vI (i32 (x1 + 1))), (2, vI x2)]) dX3_gathers_111 (Nat.le_of_ble_eq_true rfl) rfl rfl ?_
      refine JW.goto (tgt := 34) dX3_gathers_114 rfl ?_
      exact JW.pick [0, 1] rfl K
    · have K := K.2 c_3
      refine JW.aload_n dX3_gathers_96 rfl ?_
      refine JW.mget (v := vR 367) dX3_gathers_97 fX3_62 rfl ?_
      refine JW.iload_n dX3_gathers_100 rfl ?_
      refine JW.mald 15 (x := (f15 x2)) dX3_gathers_101 (Nat.le_of_ble_eq_true rfl) rfl o_1.1 o_1.2 rfl ?_
      refine JW.iconst dX3_gathers_102 rfl ?_
      refine JW.icmp_ne (tgt := 111) dX3_gathers_103 rfl (fun c_4 => ?_) (fun c_4 => ?_)
      · have K := K.1 c_4
        refine JW.iinc (ls' := [(0, vR 351), (1, vI (i32 (x1 + 1))), (2, vI x2)]) dX3_gathers_111 (Nat.le_of_ble_eq_true rfl) rfl rfl ?_
        refine JW.goto (tgt := 34) dX3_gathers_114 rfl ?_
        exact JW.pick [0, 1] rfl K
      · have K := K.2 c_4
        refine JW.aload_n dX3_gathers_106 rfl ?_
        refine JW.iload_n dX3_gathers_107 rfl ?_
        obtain ⟨o_5, K⟩ := K
        refine JW.mcall (As := [vI x2]) dX3_gathers_108 vX3_laysRound rfl q1879 (ctX3_laysRound b (sA (sA (sA (sA s 14 f14) 15 f15) 16 f16) 17 f17) x2 o_5) (Nat.le_of_ble_eq_true rfl) rfl (Nat.le_of_ble_eq_true rfl) ?_
        rintro _ _ ⟨rfl, rfl⟩
        refine JW.steq (s2 := sA (sA (sA (sA s 14 f14) 15 (layO (orb (s.2 13) x2) (hm (s.2 13) x2) f15)) 16 (layO (orb (s.2 13) x2) (rg (s.2 13) x2) f16)) 17 f17) (by simp only [sA_A, sS_S, sA_S, sA_lt, sS_lt, Nat.reduceLT, id_eq] <;> rfl) ?_
        refine JW.iinc (ls' := [(0, vR 351), (1, vI (i32 (x1 + 1))), (2, vI x2)]) dX3_gathers_111 (Nat.le_of_ble_eq_true rfl) rfl rfl ?_
        refine JW.goto (tgt := 34) dX3_gathers_114 rfl ?_
        exact JW.pick [0, 1] rfl K
  · have K := K.2 c_2
    refine JW.aload_n dX3_gathers_69 rfl ?_
    refine JW.mget (v := vR 369) dX3_gathers_70 fX3_68 rfl ?_
    refine JW.iload_n dX3_gathers_73 rfl ?_
    refine JW.iload_n dX3_gathers_74 rfl ?_
    refine JW.mast 17 (f := f17) dX3_gathers_75 (Nat.le_of_ble_eq_true rfl) rfl o_1.1 o_1.2 rfl ?_
    refine JW.steq (s2 := sA (sA (sA (sA s 14 f14) 15 f15) 16 f16) 17 (upI f17 x2 x1)) (by simp only [sA_A, sS_S, sA_S, sA_lt, sS_lt, Nat.reduceLT, id_eq] <;> rfl) ?_
    refine JW.aload_n dX3_gathers_76 rfl ?_
    refine JW.mget (v := vR 365) dX3_gathers_77 fX3_56 rfl ?_
    refine JW.iload_n dX3_gathers_80 rfl ?_
    refine JW.mald 13 (x := (s.2 13 x2)) dX3_gathers_81 (Nat.le_of_ble_eq_true rfl) rfl o_1.1 o_1.2 rfl ?_
    refine JW.istore_n (ls' := [(0, vR 351), (1, vI x1), (2, vI (s.2 13 x2))]) dX3_gathers_82 (Nat.le_of_ble_eq_true rfl) rfl ?_
    refine JW.goto (tgt := 59) dX3_gathers_83 rfl ?_
    exact JW.pick [0, 1, 2] rfl K
theorem bX3_gathers_119 {Q : Option AV → MS → Prop} (b : AH) (s : MS) (x1 : Int) (f14 : Int → Int) (f15 : Int → Int) (f16 : Int → Int) (f17 : Int → Int) (K : ((s.2 6 2) ≤ x1 → Q none (sA (sA (sA (sA s 14 f14) 15 f15) 16 f16) 17 f17)) ∧ (¬ (s.2 6 2) ≤ x1 → HX3_gathers_133 Q b s x1 x1 0 f14 f15 f16 f17)) : HX3_gathers_119 Q b s x1 f14 f15 f16 f17 := by
  refine JW.iload_n dX3_gathers_119 rfl ?_
  refine JW.aload_n dX3_gathers_120 rfl ?_
  refine JW.mget (v := vR 358) dX3_gathers_121 fX3_34 rfl ?_
  refine JW.iconst dX3_gathers_124 rfl ?_
  refine JW.mald 6 (x := (s.2 6 2)) dX3_gathers_125 (Nat.le_of_ble_eq_true rfl) rfl (by decide) (by decide) rfl ?_
  refine JW.icmp_ge (tgt := 180) dX3_gathers_126 rfl (fun c_1 => ?_) (fun c_1 => ?_)
  · have K := K.1 c_1
    exact JW.vreturn dX3_gathers_180 rfl ⟨_, rfl, K⟩
  · have K := K.2 c_1
    refine JW.iload_n dX3_gathers_129 rfl ?_
    refine JW.istore_n (ls' := [(0, vR 351), (1, vI x1), (2, vI x1)]) dX3_gathers_130 (Nat.le_of_ble_eq_true rfl) rfl ?_
    refine JW.iconst dX3_gathers_131 rfl ?_
    refine JW.istore_n (ls' := [(0, vR 351), (1, vI x1), (2, vI x1), (3, vI 0)]) dX3_gathers_132 (Nat.le_of_ble_eq_true rfl) rfl ?_
    exact JW.pick [0, 1, 2, 3] rfl K
theorem bX3_gathers_133 {Q : Option AV → MS → Prop} (b : AH) (s : MS) (x1 : Int) (x2 : Int) (x3 : Int) (f14 : Int → Int) (f15 : Int → Int) (f16 : Int → Int) (f17 : Int → Int) (K : (0 ≤ x2 ∧ x2 < 10000) ∧ ((¬ (f16 x2) = 0 → (0 ≤ x1 ∧ x1 < 10000) ∧ (HX3_gathers_119 Q b s (i32 (x1 + 1)) (upI f14 x1 x3) (upI f15 x1 (f15 x2)) f16 f17)) ∧ ((f16 x2) = 0 → HX3_gathers_133 Q b s x1 (s.2 13 x2) (i32 (x3 + 1)) f14 f15 f16 f17))) : HX3_gathers_133 Q b s x1 x2 x3 f14 f15 f16 f17 := by
  refine JW.aload_n dX3_gathers_133 rfl ?_
  refine JW.mget (v := vR 368) dX3_gathers_134 fX3_65 rfl ?_
  refine JW.iload_n dX3_gathers_137 rfl ?_
  obtain ⟨o_1, K⟩ := K
  refine JW.mald 16 (x := (f16 x2)) dX3_gathers_138 (Nat.le_of_ble_eq_true rfl) rfl o_1.1 o_1.2 rfl ?_
  refine JW.if_ne (tgt := 155) dX3_gathers_139 rfl (fun c_2 => ?_) (fun c_2 => ?_)
  · have K := K.1 c_2
    refine JW.aload_n dX3_gathers_155 rfl ?_
    refine JW.mget (v := vR 366) dX3_gathers_156 fX3_59 rfl ?_
    refine JW.iload_n dX3_gathers_159 rfl ?_
    refine JW.iload_n dX3_gathers_160 rfl ?_
    obtain ⟨o_3, K⟩ := K
    refine JW.mast 14 (f := f14) dX3_gathers_161 (Nat.le_of_ble_eq_true rfl) rfl o_3.1 o_3.2 rfl ?_
    refine JW.steq (s2 := sA (sA (sA (sA s 14 (upI f14 x1 x3)) 15 f15) 16 f16) 17 f17) (by simp only [sA_A, sS_S, sA_S, sA_lt, sS_lt, Nat.reduceLT, id_eq] <;> rfl) ?_
    refine JW.aload_n dX3_gathers_162 rfl ?_
    refine JW.mget (v := vR 367) dX3_gathers_163 fX3_62 rfl ?_
    refine JW.iload_n dX3_gathers_166 rfl ?_
    refine JW.aload_n dX3_gathers_167 rfl ?_
    refine JW.mget (v := vR 367) dX3_gathers_168 fX3_62 rfl ?_
    refine JW.iload_n dX3_gathers_171 rfl ?_
    refine JW.mald 15 (x := (f15 x2)) dX3_gathers_172 (Nat.le_of_ble_eq_true rfl) rfl o_1.1 o_1.2 rfl ?_
    refine JW.mast 15 (f := f15) dX3_gathers_173 (Nat.le_of_ble_eq_true rfl) rfl o_3.1 o_3.2 rfl ?_
    refine JW.steq (s2 := sA (sA (sA (sA s 14 (upI f14 x1 x3)) 15 (upI f15 x1 (f15 x2))) 16 f16) 17 f17) (by simp only [sA_A, sS_S, sA_S, sA_lt, sS_lt, Nat.reduceLT, id_eq] <;> rfl) ?_
    refine JW.iinc (ls' := [(0, vR 351), (1, vI (i32 (x1 + 1))), (2, vI x2), (3, vI x3)]) dX3_gathers_174 (Nat.le_of_ble_eq_true rfl) rfl rfl ?_
    refine JW.goto (tgt := 119) dX3_gathers_177 rfl ?_
    exact JW.pick [0, 1] rfl K
  · have K := K.2 c_2
    refine JW.aload_n dX3_gathers_142 rfl ?_
    refine JW.mget (v := vR 365) dX3_gathers_143 fX3_56 rfl ?_
    refine JW.iload_n dX3_gathers_146 rfl ?_
    refine JW.mald 13 (x := (s.2 13 x2)) dX3_gathers_147 (Nat.le_of_ble_eq_true rfl) rfl o_1.1 o_1.2 rfl ?_
    refine JW.istore_n (ls' := [(0, vR 351), (1, vI x1), (2, vI (s.2 13 x2)), (3, vI x3)]) dX3_gathers_148 (Nat.le_of_ble_eq_true rfl) rfl ?_
    refine JW.iinc (ls' := [(0, vR 351), (1, vI x1), (2, vI (s.2 13 x2)), (3, vI (i32 (x3 + 1)))]) dX3_gathers_149 (Nat.le_of_ble_eq_true rfl) rfl rfl ?_
    refine JW.goto (tgt := 133) dX3_gathers_152 rfl ?_
    exact JW.pick [0, 1, 2, 3] rfl K
def QX3_gathers (s : MS) : Option AV → MS → Prop := fun v s' => ∃ (f17 : Int → Int), v = none ∧ s' = sA (sA (sA (sA s 14 (lay ((s.2 6) 2) (tl (s.2 13)) (s.2 14))) 15 (lay ((s.2 6) 2) (hm (s.2 13)) (s.2 15))) 16 (lay ((s.2 6) 2) (rg (s.2 13)) (s.2 16))) 17 f17
theorem vX3_gathers_1 (s : MS) (hp : rng (s.2 13) ((s.2 6) 2) ∧ 0 ≤ (s.2 6) 2 ∧ (s.2 6) 2 ≤ 10000 ∧ ∀ x : Int, 0 ≤ x → x < (s.2 6) 2 → (s.2 16) x = 0) (x1 : Int) (f14 : Int → Int) (f15 : Int → Int) (f16 : Int → Int) (f17 : Int → Int) (hI : (0 ≤ x1 ∧ x1 ≤ s.2 6 2) ∧ f14 = s.2 14 ∧ f15 = lay x1 (fun _ => -1) (s.2 15) ∧ f16 = s.2 16 ∧ f17 = lay x1 (fun _ => -1) (s.2 17)) (c_1 : (s.2 6 2) ≤ x1) : (0 ≤ (0 : Int) ∧ (0 : Int) ≤ s.2 6 2) ∧ f14 = s.2 14 ∧ MK (s.2 13) (s.2 6 2) f15 f16 f17 (s.2 15) (s.2 16) (0 : Int) := by
  obtain ⟨hg, hN0, hN1, hz⟩ := hp
  refine ⟨by omega, hI.2.1, ?_⟩
  rw [hI.2.2.1, hI.2.2.2.1, hI.2.2.2.2, show x1 = s.2 6 2 by omega]
  exact MK_0 hN0 hz
theorem vX3_gathers_2 (s : MS) (hp : rng (s.2 13) ((s.2 6) 2) ∧ 0 ≤ (s.2 6) 2 ∧ (s.2 6) 2 ≤ 10000 ∧ ∀ x : Int, 0 ≤ x → x < (s.2 6) 2 → (s.2 16) x = 0) (x1 : Int) (f14 : Int → Int) (f15 : Int → Int) (f16 : Int → Int) (f17 : Int → Int) (hI : (0 ≤ x1 ∧ x1 ≤ s.2 6 2) ∧ f14 = s.2 14 ∧ f15 = lay x1 (fun _ => -1) (s.2 15) ∧ f16 = s.2 16 ∧ f17 = lay x1 (fun _ => -1) (s.2 17)) (c_1 : (s.2 6 2) ≤ x1) : lex3 1 ((s.2 6 2 - (0 : Int)).toNat) 0 2 ((s.2 6 2 - x1).toNat) 0 := by
  obtain ⟨hg, hN0, hN1, hz⟩ := hp
  (try unfold lex3)
  (try simp only [bI_0, bI_n, Classical.not_not] at *)
  (try simp (disch := omega) only [i32_id] at *)
  first | done | omega | ((repeat' (with_reducible apply And.intro)) <;> first | assumption | rfl | omega | grind [upI])
theorem vX3_gathers_3 (s : MS) (hp : rng (s.2 13) ((s.2 6) 2) ∧ 0 ≤ (s.2 6) 2 ∧ (s.2 6) 2 ≤ 10000 ∧ ∀ x : Int, 0 ≤ x → x < (s.2 6) 2 → (s.2 16) x = 0) (x1 : Int) (f14 : Int → Int) (f15 : Int → Int) (f16 : Int → Int) (f17 : Int → Int) (hI : (0 ≤ x1 ∧ x1 ≤ s.2 6 2) ∧ f14 = s.2 14 ∧ f15 = lay x1 (fun _ => -1) (s.2 15) ∧ f16 = s.2 16 ∧ f17 = lay x1 (fun _ => -1) (s.2 17)) (c_1 : ¬ (s.2 6 2) ≤ x1) : (0 ≤ x1 ∧ x1 < 10000) := by
  obtain ⟨hg, hN0, hN1, hz⟩ := hp
  (try unfold lex3)
  (try simp only [bI_0, bI_n, Classical.not_not] at *)
  (try simp (disch := omega) only [i32_id] at *)
  first | done | omega | ((repeat' (with_reducible apply And.intro)) <;> first | assumption | rfl | omega | grind [upI])
theorem vX3_gathers_4 (s : MS) (hp : rng (s.2 13) ((s.2 6) 2) ∧ 0 ≤ (s.2 6) 2 ∧ (s.2 6) 2 ≤ 10000 ∧ ∀ x : Int, 0 ≤ x → x < (s.2 6) 2 → (s.2 16) x = 0) (x1 : Int) (f14 : Int → Int) (f15 : Int → Int) (f16 : Int → Int) (f17 : Int → Int) (hI : (0 ≤ x1 ∧ x1 ≤ s.2 6 2) ∧ f14 = s.2 14 ∧ f15 = lay x1 (fun _ => -1) (s.2 15) ∧ f16 = s.2 16 ∧ f17 = lay x1 (fun _ => -1) (s.2 17)) (c_1 : ¬ (s.2 6 2) ≤ x1) (o_2 : (0 ≤ x1 ∧ x1 < 10000)) : (0 ≤ (i32 (x1 + 1)) ∧ (i32 (x1 + 1)) ≤ s.2 6 2) ∧ f14 = s.2 14 ∧ (upI f15 x1 (-1)) = lay (i32 (x1 + 1)) (fun _ => -1) (s.2 15) ∧ f16 = s.2 16 ∧ (upI f17 x1 (-1)) = lay (i32 (x1 + 1)) (fun _ => -1) (s.2 17) := by
  obtain ⟨hg, hN0, hN1, hz⟩ := hp
  rw [i32_id (x := x1 + 1) (by omega) (by omega), hI.2.2.1, hI.2.2.2.2]
  exact ⟨by omega, hI.2.1, lay_s _ _ hI.1.1 rfl, hI.2.2.2.1, lay_s _ _ hI.1.1 rfl⟩
theorem vX3_gathers_5 (s : MS) (hp : rng (s.2 13) ((s.2 6) 2) ∧ 0 ≤ (s.2 6) 2 ∧ (s.2 6) 2 ≤ 10000 ∧ ∀ x : Int, 0 ≤ x → x < (s.2 6) 2 → (s.2 16) x = 0) (x1 : Int) (f14 : Int → Int) (f15 : Int → Int) (f16 : Int → Int) (f17 : Int → Int) (hI : (0 ≤ x1 ∧ x1 ≤ s.2 6 2) ∧ f14 = s.2 14 ∧ f15 = lay x1 (fun _ => -1) (s.2 15) ∧ f16 = s.2 16 ∧ f17 = lay x1 (fun _ => -1) (s.2 17)) (c_1 : ¬ (s.2 6 2) ≤ x1) (o_2 : (0 ≤ x1 ∧ x1 < 10000)) : lex3 2 ((s.2 6 2 - (i32 (x1 + 1))).toNat) 0 2 ((s.2 6 2 - x1).toNat) 0 := by
  obtain ⟨hg, hN0, hN1, hz⟩ := hp
  (try unfold lex3)
  (try simp only [bI_0, bI_n, Classical.not_not] at *)
  (try simp (disch := omega) only [i32_id] at *)
  first | done | omega | ((repeat' (with_reducible apply And.intro)) <;> first | assumption | rfl | omega | grind [upI])
theorem vX3_gathers_6 (s : MS) (hp : rng (s.2 13) ((s.2 6) 2) ∧ 0 ≤ (s.2 6) 2 ∧ (s.2 6) 2 ≤ 10000 ∧ ∀ x : Int, 0 ≤ x → x < (s.2 6) 2 → (s.2 16) x = 0) (x1 : Int) (f14 : Int → Int) (f15 : Int → Int) (f16 : Int → Int) (f17 : Int → Int) (hI : (0 ≤ x1 ∧ x1 ≤ s.2 6 2) ∧ f14 = s.2 14 ∧ MK (s.2 13) (s.2 6 2) f15 f16 f17 (s.2 15) (s.2 16) x1) (c_1 : (s.2 6 2) ≤ x1) : (0 ≤ (0 : Int) ∧ (0 : Int) ≤ s.2 6 2) ∧ f14 = lay (0 : Int) (tl (s.2 13)) (s.2 14) ∧ f16 = lay (s.2 6 2) (rg (s.2 13)) (s.2 16) ∧ FI (s.2 13) (s.2 6 2) f15 (s.2 15) (0 : Int) := by
  obtain ⟨hg, hN0, hN1, hz⟩ := hp
  rw [show x1 = s.2 6 2 by omega] at hI
  have h := FI_0 hI.2.2
  exact ⟨by omega, by rw [hI.2.1]; exact (lay_0 _ _ (Int.le_refl _)).symm, h.2, h.1⟩
theorem vX3_gathers_7 (s : MS) (hp : rng (s.2 13) ((s.2 6) 2) ∧ 0 ≤ (s.2 6) 2 ∧ (s.2 6) 2 ≤ 10000 ∧ ∀ x : Int, 0 ≤ x → x < (s.2 6) 2 → (s.2 16) x = 0) (x1 : Int) (f14 : Int → Int) (f15 : Int → Int) (f16 : Int → Int) (f17 : Int → Int) (hI : (0 ≤ x1 ∧ x1 ≤ s.2 6 2) ∧ f14 = s.2 14 ∧ MK (s.2 13) (s.2 6 2) f15 f16 f17 (s.2 15) (s.2 16) x1) (c_1 : (s.2 6 2) ≤ x1) : lex3 0 ((s.2 6 2 - (0 : Int)).toNat) 0 1 ((s.2 6 2 - x1).toNat) 0 := by
  obtain ⟨hg, hN0, hN1, hz⟩ := hp
  (try unfold lex3)
  (try simp only [bI_0, bI_n, Classical.not_not] at *)
  (try simp (disch := omega) only [i32_id] at *)
  first | done | omega | ((repeat' (with_reducible apply And.intro)) <;> first | assumption | rfl | omega | grind [upI])
theorem vX3_gathers_8 (s : MS) (hp : rng (s.2 13) ((s.2 6) 2) ∧ 0 ≤ (s.2 6) 2 ∧ (s.2 6) 2 ≤ 10000 ∧ ∀ x : Int, 0 ≤ x → x < (s.2 6) 2 → (s.2 16) x = 0) (x1 : Int) (f14 : Int → Int) (f15 : Int → Int) (f16 : Int → Int) (f17 : Int → Int) (hI : (0 ≤ x1 ∧ x1 ≤ s.2 6 2) ∧ f14 = s.2 14 ∧ MK (s.2 13) (s.2 6 2) f15 f16 f17 (s.2 15) (s.2 16) x1) (c_1 : ¬ (s.2 6 2) ≤ x1) : (0 ≤ x1 ∧ x1 < 10000) := by
  obtain ⟨hg, hN0, hN1, hz⟩ := hp
  (try unfold lex3)
  (try simp only [bI_0, bI_n, Classical.not_not] at *)
  (try simp (disch := omega) only [i32_id] at *)
  first | done | omega | ((repeat' (with_reducible apply And.intro)) <;> first | assumption | rfl | omega | grind [upI])
theorem vX3_gathers_9 (s : MS) (hp : rng (s.2 13) ((s.2 6) 2) ∧ 0 ≤ (s.2 6) 2 ∧ (s.2 6) 2 ≤ 10000 ∧ ∀ x : Int, 0 ≤ x → x < (s.2 6) 2 → (s.2 16) x = 0) (x1 : Int) (f14 : Int → Int) (f15 : Int → Int) (f16 : Int → Int) (f17 : Int → Int) (hI : (0 ≤ x1 ∧ x1 ≤ s.2 6 2) ∧ f14 = s.2 14 ∧ MK (s.2 13) (s.2 6 2) f15 f16 f17 (s.2 15) (s.2 16) x1) (c_1 : ¬ (s.2 6 2) ≤ x1) (o_2 : (0 ≤ x1 ∧ x1 < 10000)) (c_3 : (f17 x1) = (-1)) : (0 ≤ x1 ∧ x1 < s.2 6 2) ∧ f14 = s.2 14 ∧ PT (s.2 13) (s.2 6 2) f15 f16 f17 (s.2 15) (s.2 16) x1 x1 := by
  obtain ⟨hg, hN0, hN1, hz⟩ := hp
  exact ⟨by omega, hI.2.1, MK_PT hI.2.2 hg (by omega)⟩
theorem vX3_gathers_10 (s : MS) (hp : rng (s.2 13) ((s.2 6) 2) ∧ 0 ≤ (s.2 6) 2 ∧ (s.2 6) 2 ≤ 10000 ∧ ∀ x : Int, 0 ≤ x → x < (s.2 6) 2 → (s.2 16) x = 0) (x1 : Int) (f14 : Int → Int) (f15 : Int → Int) (f16 : Int → Int) (f17 : Int → Int) (hI : (0 ≤ x1 ∧ x1 ≤ s.2 6 2) ∧ f14 = s.2 14 ∧ MK (s.2 13) (s.2 6 2) f15 f16 f17 (s.2 15) (s.2 16) x1) (c_1 : ¬ (s.2 6 2) ≤ x1) (o_2 : (0 ≤ x1 ∧ x1 < 10000)) (c_3 : (f17 x1) = (-1)) : lex3 1 ((s.2 6 2 - x1).toNat - 1) ((cnt f17 (-1) (s.2 6 2).toNat).toNat + 1) 1 ((s.2 6 2 - x1).toNat) 0 := by
  obtain ⟨hg, hN0, hN1, hz⟩ := hp
  (try unfold lex3)
  (try simp only [bI_0, bI_n, Classical.not_not] at *)
  (try simp (disch := omega) only [i32_id] at *)
  first | done | omega | ((repeat' (with_reducible apply And.intro)) <;> first | assumption | rfl | omega | grind [upI])
theorem vX3_gathers_11 (s : MS) (hp : rng (s.2 13) ((s.2 6) 2) ∧ 0 ≤ (s.2 6) 2 ∧ (s.2 6) 2 ≤ 10000 ∧ ∀ x : Int, 0 ≤ x → x < (s.2 6) 2 → (s.2 16) x = 0) (x1 : Int) (f14 : Int → Int) (f15 : Int → Int) (f16 : Int → Int) (f17 : Int → Int) (hI : (0 ≤ x1 ∧ x1 ≤ s.2 6 2) ∧ f14 = s.2 14 ∧ MK (s.2 13) (s.2 6 2) f15 f16 f17 (s.2 15) (s.2 16) x1) (c_1 : ¬ (s.2 6 2) ≤ x1) (o_2 : (0 ≤ x1 ∧ x1 < 10000)) (c_3 : ¬ (f17 x1) = (-1)) : (0 ≤ (i32 (x1 + 1)) ∧ (i32 (x1 + 1)) ≤ s.2 6 2) ∧ f14 = s.2 14 ∧ MK (s.2 13) (s.2 6 2) f15 f16 f17 (s.2 15) (s.2 16) (i32 (x1 + 1)) := by
  obtain ⟨hg, hN0, hN1, hz⟩ := hp
  rw [i32_id (x := x1 + 1) (by omega) (by omega)]
  exact ⟨by omega, hI.2.1, MK_skip hI.2.2 (by omega) c_3⟩
theorem vX3_gathers_12 (s : MS) (hp : rng (s.2 13) ((s.2 6) 2) ∧ 0 ≤ (s.2 6) 2 ∧ (s.2 6) 2 ≤ 10000 ∧ ∀ x : Int, 0 ≤ x → x < (s.2 6) 2 → (s.2 16) x = 0) (x1 : Int) (f14 : Int → Int) (f15 : Int → Int) (f16 : Int → Int) (f17 : Int → Int) (hI : (0 ≤ x1 ∧ x1 ≤ s.2 6 2) ∧ f14 = s.2 14 ∧ MK (s.2 13) (s.2 6 2) f15 f16 f17 (s.2 15) (s.2 16) x1) (c_1 : ¬ (s.2 6 2) ≤ x1) (o_2 : (0 ≤ x1 ∧ x1 < 10000)) (c_3 : ¬ (f17 x1) = (-1)) : lex3 1 ((s.2 6 2 - (i32 (x1 + 1))).toNat) 0 1 ((s.2 6 2 - x1).toNat) 0 := by
  obtain ⟨hg, hN0, hN1, hz⟩ := hp
  (try unfold lex3)
  (try simp only [bI_0, bI_n, Classical.not_not] at *)
  (try simp (disch := omega) only [i32_id] at *)
  first | done | omega | ((repeat' (with_reducible apply And.intro)) <;> first | assumption | rfl | omega | grind [upI])
theorem vX3_gathers_13 (s : MS) (hp : rng (s.2 13) ((s.2 6) 2) ∧ 0 ≤ (s.2 6) 2 ∧ (s.2 6) 2 ≤ 10000 ∧ ∀ x : Int, 0 ≤ x → x < (s.2 6) 2 → (s.2 16) x = 0) (x1 : Int) (x2 : Int) (f14 : Int → Int) (f15 : Int → Int) (f16 : Int → Int) (f17 : Int → Int) (hI : (0 ≤ x1 ∧ x1 < s.2 6 2) ∧ f14 = s.2 14 ∧ PT (s.2 13) (s.2 6 2) f15 f16 f17 (s.2 15) (s.2 16) x1 x2) : (0 ≤ x2 ∧ x2 < 10000) := by
  obtain ⟨hg, hN0, hN1, hz⟩ := hp
  have := PT_b hI.2.2 hg
  omega
theorem vX3_gathers_14 (s : MS) (hp : rng (s.2 13) ((s.2 6) 2) ∧ 0 ≤ (s.2 6) 2 ∧ (s.2 6) 2 ≤ 10000 ∧ ∀ x : Int, 0 ≤ x → x < (s.2 6) 2 → (s.2 16) x = 0) (x1 : Int) (x2 : Int) (f14 : Int → Int) (f15 : Int → Int) (f16 : Int → Int) (f17 : Int → Int) (hI : (0 ≤ x1 ∧ x1 < s.2 6 2) ∧ f14 = s.2 14 ∧ PT (s.2 13) (s.2 6 2) f15 f16 f17 (s.2 15) (s.2 16) x1 x2) (o_1 : (0 ≤ x2 ∧ x2 < 10000)) (c_2 : ¬ (f17 x2) = (-1)) (c_3 : ¬ (f17 x2) = x1) : (0 ≤ (i32 (x1 + 1)) ∧ (i32 (x1 + 1)) ≤ s.2 6 2) ∧ f14 = s.2 14 ∧ MK (s.2 13) (s.2 6 2) f15 f16 f17 (s.2 15) (s.2 16) (i32 (x1 + 1)) := by
  obtain ⟨hg, hN0, hN1, hz⟩ := hp
  rw [i32_id (x := x1 + 1) (by omega) (by omega)]
  exact ⟨by omega, hI.2.1, PT_old hI.2.2 hg c_2 c_3⟩
theorem vX3_gathers_15 (s : MS) (hp : rng (s.2 13) ((s.2 6) 2) ∧ 0 ≤ (s.2 6) 2 ∧ (s.2 6) 2 ≤ 10000 ∧ ∀ x : Int, 0 ≤ x → x < (s.2 6) 2 → (s.2 16) x = 0) (x1 : Int) (x2 : Int) (f14 : Int → Int) (f15 : Int → Int) (f16 : Int → Int) (f17 : Int → Int) (hI : (0 ≤ x1 ∧ x1 < s.2 6 2) ∧ f14 = s.2 14 ∧ PT (s.2 13) (s.2 6 2) f15 f16 f17 (s.2 15) (s.2 16) x1 x2) (o_1 : (0 ≤ x2 ∧ x2 < 10000)) (c_2 : ¬ (f17 x2) = (-1)) (c_3 : ¬ (f17 x2) = x1) : lex3 1 ((s.2 6 2 - (i32 (x1 + 1))).toNat) 0 1 ((s.2 6 2 - x1).toNat - 1) ((cnt f17 (-1) (s.2 6 2).toNat).toNat + 1) := by
  obtain ⟨hg, hN0, hN1, hz⟩ := hp
  (try unfold lex3)
  (try simp only [bI_0, bI_n, Classical.not_not] at *)
  (try simp (disch := omega) only [i32_id] at *)
  first | done | omega | ((repeat' (with_reducible apply And.intro)) <;> first | assumption | rfl | omega | grind [upI])
theorem vX3_gathers_16 (s : MS) (hp : rng (s.2 13) ((s.2 6) 2) ∧ 0 ≤ (s.2 6) 2 ∧ (s.2 6) 2 ≤ 10000 ∧ ∀ x : Int, 0 ≤ x → x < (s.2 6) 2 → (s.2 16) x = 0) (x1 : Int) (x2 : Int) (f14 : Int → Int) (f15 : Int → Int) (f16 : Int → Int) (f17 : Int → Int) (hI : (0 ≤ x1 ∧ x1 < s.2 6 2) ∧ f14 = s.2 14 ∧ PT (s.2 13) (s.2 6 2) f15 f16 f17 (s.2 15) (s.2 16) x1 x2) (o_1 : (0 ≤ x2 ∧ x2 < 10000)) (c_2 : ¬ (f17 x2) = (-1)) (c_3 : (f17 x2) = x1) (c_4 : ¬ (f15 x2) = (-1)) : (0 ≤ (i32 (x1 + 1)) ∧ (i32 (x1 + 1)) ≤ s.2 6 2) ∧ f14 = s.2 14 ∧ MK (s.2 13) (s.2 6 2) f15 f16 f17 (s.2 15) (s.2 16) (i32 (x1 + 1)) := by
  obtain ⟨hg, hN0, hN1, hz⟩ := hp
  exact absurd (PT_new hI.2.2 hg c_3).2.1 c_4
theorem vX3_gathers_17 (s : MS) (hp : rng (s.2 13) ((s.2 6) 2) ∧ 0 ≤ (s.2 6) 2 ∧ (s.2 6) 2 ≤ 10000 ∧ ∀ x : Int, 0 ≤ x → x < (s.2 6) 2 → (s.2 16) x = 0) (x1 : Int) (x2 : Int) (f14 : Int → Int) (f15 : Int → Int) (f16 : Int → Int) (f17 : Int → Int) (hI : (0 ≤ x1 ∧ x1 < s.2 6 2) ∧ f14 = s.2 14 ∧ PT (s.2 13) (s.2 6 2) f15 f16 f17 (s.2 15) (s.2 16) x1 x2) (o_1 : (0 ≤ x2 ∧ x2 < 10000)) (c_2 : ¬ (f17 x2) = (-1)) (c_3 : (f17 x2) = x1) (c_4 : ¬ (f15 x2) = (-1)) : lex3 1 ((s.2 6 2 - (i32 (x1 + 1))).toNat) 0 1 ((s.2 6 2 - x1).toNat - 1) ((cnt f17 (-1) (s.2 6 2).toNat).toNat + 1) := by
  obtain ⟨hg, hN0, hN1, hz⟩ := hp
  (try unfold lex3)
  (try simp only [bI_0, bI_n, Classical.not_not] at *)
  (try simp (disch := omega) only [i32_id] at *)
  first | done | omega | ((repeat' (with_reducible apply And.intro)) <;> first | assumption | rfl | omega | grind [upI])
theorem vX3_gathers_18 (s : MS) (hp : rng (s.2 13) ((s.2 6) 2) ∧ 0 ≤ (s.2 6) 2 ∧ (s.2 6) 2 ≤ 10000 ∧ ∀ x : Int, 0 ≤ x → x < (s.2 6) 2 → (s.2 16) x = 0) (x1 : Int) (x2 : Int) (f14 : Int → Int) (f15 : Int → Int) (f16 : Int → Int) (f17 : Int → Int) (hI : (0 ≤ x1 ∧ x1 < s.2 6 2) ∧ f14 = s.2 14 ∧ PT (s.2 13) (s.2 6 2) f15 f16 f17 (s.2 15) (s.2 16) x1 x2) (o_1 : (0 ≤ x2 ∧ x2 < 10000)) (c_2 : ¬ (f17 x2) = (-1)) (c_3 : (f17 x2) = x1) (c_4 : (f15 x2) = (-1)) : (rng (s.2 13) ((s.2 6) 2) ∧ 0 ≤ (s.2 6) 2 ∧ (s.2 6) 2 ≤ 10000 ∧ 0 ≤ x2 ∧ x2 < (s.2 6) 2 ∧ cyc (s.2 13) x2) := by
  obtain ⟨hg, hN0, hN1, hz⟩ := hp
  have := PT_b hI.2.2 hg
  exact ⟨hg, hN0, hN1, this.1, this.2, (PT_new hI.2.2 hg c_3).1⟩
theorem vX3_gathers_19 (s : MS) (hp : rng (s.2 13) ((s.2 6) 2) ∧ 0 ≤ (s.2 6) 2 ∧ (s.2 6) 2 ≤ 10000 ∧ ∀ x : Int, 0 ≤ x → x < (s.2 6) 2 → (s.2 16) x = 0) (x1 : Int) (x2 : Int) (f14 : Int → Int) (f15 : Int → Int) (f16 : Int → Int) (f17 : Int → Int) (hI : (0 ≤ x1 ∧ x1 < s.2 6 2) ∧ f14 = s.2 14 ∧ PT (s.2 13) (s.2 6 2) f15 f16 f17 (s.2 15) (s.2 16) x1 x2) (o_1 : (0 ≤ x2 ∧ x2 < 10000)) (c_2 : ¬ (f17 x2) = (-1)) (c_3 : (f17 x2) = x1) (c_4 : (f15 x2) = (-1)) (o_5 : (rng (s.2 13) ((s.2 6) 2) ∧ 0 ≤ (s.2 6) 2 ∧ (s.2 6) 2 ≤ 10000 ∧ 0 ≤ x2 ∧ x2 < (s.2 6) 2 ∧ cyc (s.2 13) x2)) : (0 ≤ (i32 (x1 + 1)) ∧ (i32 (x1 + 1)) ≤ s.2 6 2) ∧ f14 = s.2 14 ∧ MK (s.2 13) (s.2 6 2) (layO (orb (s.2 13) x2) (hm (s.2 13) x2) f15) (layO (orb (s.2 13) x2) (rg (s.2 13) x2) f16) f17 (s.2 15) (s.2 16) (i32 (x1 + 1)) := by
  obtain ⟨hg, hN0, hN1, hz⟩ := hp
  rw [i32_id (x := x1 + 1) (by omega) (by omega)]
  exact ⟨by omega, hI.2.1, (PT_new hI.2.2 hg c_3).2.2⟩
theorem vX3_gathers_20 (s : MS) (hp : rng (s.2 13) ((s.2 6) 2) ∧ 0 ≤ (s.2 6) 2 ∧ (s.2 6) 2 ≤ 10000 ∧ ∀ x : Int, 0 ≤ x → x < (s.2 6) 2 → (s.2 16) x = 0) (x1 : Int) (x2 : Int) (f14 : Int → Int) (f15 : Int → Int) (f16 : Int → Int) (f17 : Int → Int) (hI : (0 ≤ x1 ∧ x1 < s.2 6 2) ∧ f14 = s.2 14 ∧ PT (s.2 13) (s.2 6 2) f15 f16 f17 (s.2 15) (s.2 16) x1 x2) (o_1 : (0 ≤ x2 ∧ x2 < 10000)) (c_2 : ¬ (f17 x2) = (-1)) (c_3 : (f17 x2) = x1) (c_4 : (f15 x2) = (-1)) (o_5 : (rng (s.2 13) ((s.2 6) 2) ∧ 0 ≤ (s.2 6) 2 ∧ (s.2 6) 2 ≤ 10000 ∧ 0 ≤ x2 ∧ x2 < (s.2 6) 2 ∧ cyc (s.2 13) x2)) : lex3 1 ((s.2 6 2 - (i32 (x1 + 1))).toNat) 0 1 ((s.2 6 2 - x1).toNat - 1) ((cnt f17 (-1) (s.2 6 2).toNat).toNat + 1) := by
  obtain ⟨hg, hN0, hN1, hz⟩ := hp
  (try unfold lex3)
  (try simp only [bI_0, bI_n, Classical.not_not] at *)
  (try simp (disch := omega) only [i32_id] at *)
  first | done | omega | ((repeat' (with_reducible apply And.intro)) <;> first | assumption | rfl | omega | grind [upI])
theorem vX3_gathers_21 (s : MS) (hp : rng (s.2 13) ((s.2 6) 2) ∧ 0 ≤ (s.2 6) 2 ∧ (s.2 6) 2 ≤ 10000 ∧ ∀ x : Int, 0 ≤ x → x < (s.2 6) 2 → (s.2 16) x = 0) (x1 : Int) (x2 : Int) (f14 : Int → Int) (f15 : Int → Int) (f16 : Int → Int) (f17 : Int → Int) (hI : (0 ≤ x1 ∧ x1 < s.2 6 2) ∧ f14 = s.2 14 ∧ PT (s.2 13) (s.2 6 2) f15 f16 f17 (s.2 15) (s.2 16) x1 x2) (o_1 : (0 ≤ x2 ∧ x2 < 10000)) (c_2 : (f17 x2) = (-1)) : (0 ≤ x1 ∧ x1 < s.2 6 2) ∧ f14 = s.2 14 ∧ PT (s.2 13) (s.2 6 2) f15 f16 (upI f17 x2 x1) (s.2 15) (s.2 16) x1 (s.2 13 x2) := by
  obtain ⟨hg, hN0, hN1, hz⟩ := hp
  exact ⟨hI.1, hI.2.1, PT_s hI.2.2 hg c_2⟩
theorem vX3_gathers_22 (s : MS) (hp : rng (s.2 13) ((s.2 6) 2) ∧ 0 ≤ (s.2 6) 2 ∧ (s.2 6) 2 ≤ 10000 ∧ ∀ x : Int, 0 ≤ x → x < (s.2 6) 2 → (s.2 16) x = 0) (x1 : Int) (x2 : Int) (f14 : Int → Int) (f15 : Int → Int) (f16 : Int → Int) (f17 : Int → Int) (hI : (0 ≤ x1 ∧ x1 < s.2 6 2) ∧ f14 = s.2 14 ∧ PT (s.2 13) (s.2 6 2) f15 f16 f17 (s.2 15) (s.2 16) x1 x2) (o_1 : (0 ≤ x2 ∧ x2 < 10000)) (c_2 : (f17 x2) = (-1)) : lex3 1 ((s.2 6 2 - x1).toNat - 1) ((cnt (upI f17 x2 x1) (-1) (s.2 6 2).toNat).toNat + 1) 1 ((s.2 6 2 - x1).toNat - 1) ((cnt f17 (-1) (s.2 6 2).toNat).toNat + 1) := by
  obtain ⟨hg, hN0, hN1, hz⟩ := hp
  have hb := PT_b hI.2.2 hg
  have := cnt_dec hb.1 hb.2 c_2 (v := x1) (by omega)
  unfold lex3
  omega
theorem vX3_gathers_23 (s : MS) (hp : rng (s.2 13) ((s.2 6) 2) ∧ 0 ≤ (s.2 6) 2 ∧ (s.2 6) 2 ≤ 10000 ∧ ∀ x : Int, 0 ≤ x → x < (s.2 6) 2 → (s.2 16) x = 0) (x1 : Int) (f14 : Int → Int) (f15 : Int → Int) (f16 : Int → Int) (f17 : Int → Int) (hI : (0 ≤ x1 ∧ x1 ≤ s.2 6 2) ∧ f14 = lay x1 (tl (s.2 13)) (s.2 14) ∧ f16 = lay (s.2 6 2) (rg (s.2 13)) (s.2 16) ∧ FI (s.2 13) (s.2 6 2) f15 (s.2 15) x1) (c_1 : (s.2 6 2) ≤ x1) : f14 = (lay ((s.2 6) 2) (tl (s.2 13)) (s.2 14)) := by
  obtain ⟨hg, hN0, hN1, hz⟩ := hp
  rw [hI.2.1, show x1 = s.2 6 2 by omega]
theorem vX3_gathers_24 (s : MS) (hp : rng (s.2 13) ((s.2 6) 2) ∧ 0 ≤ (s.2 6) 2 ∧ (s.2 6) 2 ≤ 10000 ∧ ∀ x : Int, 0 ≤ x → x < (s.2 6) 2 → (s.2 16) x = 0) (x1 : Int) (f14 : Int → Int) (f15 : Int → Int) (f16 : Int → Int) (f17 : Int → Int) (hI : (0 ≤ x1 ∧ x1 ≤ s.2 6 2) ∧ f14 = lay x1 (tl (s.2 13)) (s.2 14) ∧ f16 = lay (s.2 6 2) (rg (s.2 13)) (s.2 16) ∧ FI (s.2 13) (s.2 6 2) f15 (s.2 15) x1) (c_1 : (s.2 6 2) ≤ x1) : f15 = (lay ((s.2 6) 2) (hm (s.2 13)) (s.2 15)) := by
  obtain ⟨hg, hN0, hN1, hz⟩ := hp
  rw [show x1 = s.2 6 2 by omega] at hI
  exact FI_N hI.2.2.2
theorem vX3_gathers_25 (s : MS) (hp : rng (s.2 13) ((s.2 6) 2) ∧ 0 ≤ (s.2 6) 2 ∧ (s.2 6) 2 ≤ 10000 ∧ ∀ x : Int, 0 ≤ x → x < (s.2 6) 2 → (s.2 16) x = 0) (x1 : Int) (f14 : Int → Int) (f15 : Int → Int) (f16 : Int → Int) (f17 : Int → Int) (hI : (0 ≤ x1 ∧ x1 ≤ s.2 6 2) ∧ f14 = lay x1 (tl (s.2 13)) (s.2 14) ∧ f16 = lay (s.2 6 2) (rg (s.2 13)) (s.2 16) ∧ FI (s.2 13) (s.2 6 2) f15 (s.2 15) x1) (c_1 : (s.2 6 2) ≤ x1) : f16 = (lay ((s.2 6) 2) (rg (s.2 13)) (s.2 16)) := by
  obtain ⟨hg, hN0, hN1, hz⟩ := hp
  exact hI.2.2.1
theorem vX3_gathers_26 (s : MS) (hp : rng (s.2 13) ((s.2 6) 2) ∧ 0 ≤ (s.2 6) 2 ∧ (s.2 6) 2 ≤ 10000 ∧ ∀ x : Int, 0 ≤ x → x < (s.2 6) 2 → (s.2 16) x = 0) (x1 : Int) (f14 : Int → Int) (f15 : Int → Int) (f16 : Int → Int) (f17 : Int → Int) (hI : (0 ≤ x1 ∧ x1 ≤ s.2 6 2) ∧ f14 = lay x1 (tl (s.2 13)) (s.2 14) ∧ f16 = lay (s.2 6 2) (rg (s.2 13)) (s.2 16) ∧ FI (s.2 13) (s.2 6 2) f15 (s.2 15) x1) (c_1 : ¬ (s.2 6 2) ≤ x1) : (0 ≤ x1 ∧ x1 < s.2 6 2) ∧ f14 = lay x1 (tl (s.2 13)) (s.2 14) ∧ f16 = lay (s.2 6 2) (rg (s.2 13)) (s.2 16) ∧ FI (s.2 13) (s.2 6 2) f15 (s.2 15) x1 ∧ (0 ≤ (0 : Int) ∧ (0 : Int) ≤ tl (s.2 13) x1) ∧ x1 = it (s.2 13) x1 (0 : Int).toNat := by
  obtain ⟨hg, hN0, hN1, hz⟩ := hp
  have hs := tl_sp hg hI.1.1 (by omega)
  exact ⟨by omega, hI.2.1, hI.2.2.1, hI.2.2.2, by omega, rfl⟩
theorem vX3_gathers_27 (s : MS) (hp : rng (s.2 13) ((s.2 6) 2) ∧ 0 ≤ (s.2 6) 2 ∧ (s.2 6) 2 ≤ 10000 ∧ ∀ x : Int, 0 ≤ x → x < (s.2 6) 2 → (s.2 16) x = 0) (x1 : Int) (f14 : Int → Int) (f15 : Int → Int) (f16 : Int → Int) (f17 : Int → Int) (hI : (0 ≤ x1 ∧ x1 ≤ s.2 6 2) ∧ f14 = lay x1 (tl (s.2 13)) (s.2 14) ∧ f16 = lay (s.2 6 2) (rg (s.2 13)) (s.2 16) ∧ FI (s.2 13) (s.2 6 2) f15 (s.2 15) x1) (c_1 : ¬ (s.2 6 2) ≤ x1) : lex3 0 ((s.2 6 2 - x1).toNat - 1) ((tl (s.2 13) x1 - (0 : Int)).toNat + 1) 0 ((s.2 6 2 - x1).toNat) 0 := by
  obtain ⟨hg, hN0, hN1, hz⟩ := hp
  (try unfold lex3)
  (try simp only [bI_0, bI_n, Classical.not_not] at *)
  (try simp (disch := omega) only [i32_id] at *)
  first | done | omega | ((repeat' (with_reducible apply And.intro)) <;> first | assumption | rfl | omega | grind [upI])
theorem vX3_gathers_28 (s : MS) (hp : rng (s.2 13) ((s.2 6) 2) ∧ 0 ≤ (s.2 6) 2 ∧ (s.2 6) 2 ≤ 10000 ∧ ∀ x : Int, 0 ≤ x → x < (s.2 6) 2 → (s.2 16) x = 0) (x1 : Int) (x2 : Int) (x3 : Int) (f14 : Int → Int) (f15 : Int → Int) (f16 : Int → Int) (f17 : Int → Int) (hI : (0 ≤ x1 ∧ x1 < s.2 6 2) ∧ f14 = lay x1 (tl (s.2 13)) (s.2 14) ∧ f16 = lay (s.2 6 2) (rg (s.2 13)) (s.2 16) ∧ FI (s.2 13) (s.2 6 2) f15 (s.2 15) x1 ∧ (0 ≤ x3 ∧ x3 ≤ tl (s.2 13) x1) ∧ x2 = it (s.2 13) x1 x3.toNat) : (0 ≤ x2 ∧ x2 < 10000) := by
  obtain ⟨hg, hN0, hN1, hz⟩ := hp
  have hb := it_b hg hI.1.1 hI.1.2 x3.toNat
  rw [← hI.2.2.2.2.2] at hb
  omega
theorem vX3_gathers_29 (s : MS) (hp : rng (s.2 13) ((s.2 6) 2) ∧ 0 ≤ (s.2 6) 2 ∧ (s.2 6) 2 ≤ 10000 ∧ ∀ x : Int, 0 ≤ x → x < (s.2 6) 2 → (s.2 16) x = 0) (x1 : Int) (x2 : Int) (x3 : Int) (f14 : Int → Int) (f15 : Int → Int) (f16 : Int → Int) (f17 : Int → Int) (hI : (0 ≤ x1 ∧ x1 < s.2 6 2) ∧ f14 = lay x1 (tl (s.2 13)) (s.2 14) ∧ f16 = lay (s.2 6 2) (rg (s.2 13)) (s.2 16) ∧ FI (s.2 13) (s.2 6 2) f15 (s.2 15) x1 ∧ (0 ≤ x3 ∧ x3 ≤ tl (s.2 13) x1) ∧ x2 = it (s.2 13) x1 x3.toNat) (o_1 : (0 ≤ x2 ∧ x2 < 10000)) (c_2 : ¬ (f16 x2) = 0) : (0 ≤ x1 ∧ x1 < 10000) := by
  obtain ⟨hg, hN0, hN1, hz⟩ := hp
  (try unfold lex3)
  (try simp only [bI_0, bI_n, Classical.not_not] at *)
  (try simp (disch := omega) only [i32_id] at *)
  first | done | omega | ((repeat' (with_reducible apply And.intro)) <;> first | assumption | rfl | omega | grind [upI])
theorem vX3_gathers_30 (s : MS) (hp : rng (s.2 13) ((s.2 6) 2) ∧ 0 ≤ (s.2 6) 2 ∧ (s.2 6) 2 ≤ 10000 ∧ ∀ x : Int, 0 ≤ x → x < (s.2 6) 2 → (s.2 16) x = 0) (x1 : Int) (x2 : Int) (x3 : Int) (f14 : Int → Int) (f15 : Int → Int) (f16 : Int → Int) (f17 : Int → Int) (hI : (0 ≤ x1 ∧ x1 < s.2 6 2) ∧ f14 = lay x1 (tl (s.2 13)) (s.2 14) ∧ f16 = lay (s.2 6 2) (rg (s.2 13)) (s.2 16) ∧ FI (s.2 13) (s.2 6 2) f15 (s.2 15) x1 ∧ (0 ≤ x3 ∧ x3 ≤ tl (s.2 13) x1) ∧ x2 = it (s.2 13) x1 x3.toNat) (o_1 : (0 ≤ x2 ∧ x2 < 10000)) (c_2 : ¬ (f16 x2) = 0) (o_3 : (0 ≤ x1 ∧ x1 < 10000)) : (0 ≤ (i32 (x1 + 1)) ∧ (i32 (x1 + 1)) ≤ s.2 6 2) ∧ (upI f14 x1 x3) = lay (i32 (x1 + 1)) (tl (s.2 13)) (s.2 14) ∧ f16 = lay (s.2 6 2) (rg (s.2 13)) (s.2 16) ∧ FI (s.2 13) (s.2 6 2) (upI f15 x1 (f15 x2)) (s.2 15) (i32 (x1 + 1)) := by
  obtain ⟨hg, hN0, hN1, hz⟩ := hp
  obtain ⟨⟨i0, i1⟩, e14, e16, hF, ⟨t0, t1⟩, rfl⟩ := hI
  have hs := tl_sp hg i0 i1
  have hb := it_b hg i0 i1 x3.toNat
  rw [e16, lay_at hb.1 hb.2] at c_2
  have hc := rg_ne c_2
  rw [i32_id (x := x1 + 1) (by omega) (by omega), e14]
  have et := tl_eq hc (fun m hm => hs.2.2 m (by omega))
  exact ⟨by omega, lay_s _ _ i0 (by omega), e16, FI_s hF hg i0 i1 hc⟩
theorem vX3_gathers_31 (s : MS) (hp : rng (s.2 13) ((s.2 6) 2) ∧ 0 ≤ (s.2 6) 2 ∧ (s.2 6) 2 ≤ 10000 ∧ ∀ x : Int, 0 ≤ x → x < (s.2 6) 2 → (s.2 16) x = 0) (x1 : Int) (x2 : Int) (x3 : Int) (f14 : Int → Int) (f15 : Int → Int) (f16 : Int → Int) (f17 : Int → Int) (hI : (0 ≤ x1 ∧ x1 < s.2 6 2) ∧ f14 = lay x1 (tl (s.2 13)) (s.2 14) ∧ f16 = lay (s.2 6 2) (rg (s.2 13)) (s.2 16) ∧ FI (s.2 13) (s.2 6 2) f15 (s.2 15) x1 ∧ (0 ≤ x3 ∧ x3 ≤ tl (s.2 13) x1) ∧ x2 = it (s.2 13) x1 x3.toNat) (o_1 : (0 ≤ x2 ∧ x2 < 10000)) (c_2 : ¬ (f16 x2) = 0) (o_3 : (0 ≤ x1 ∧ x1 < 10000)) : lex3 0 ((s.2 6 2 - (i32 (x1 + 1))).toNat) 0 0 ((s.2 6 2 - x1).toNat - 1) ((tl (s.2 13) x1 - x3).toNat + 1) := by
  obtain ⟨hg, hN0, hN1, hz⟩ := hp
  (try unfold lex3)
  (try simp only [bI_0, bI_n, Classical.not_not] at *)
  (try simp (disch := omega) only [i32_id] at *)
  first | done | omega | ((repeat' (with_reducible apply And.intro)) <;> first | assumption | rfl | omega | grind [upI])
theorem vX3_gathers_32 (s : MS) (hp : rng (s.2 13) ((s.2 6) 2) ∧ 0 ≤ (s.2 6) 2 ∧ (s.2 6) 2 ≤ 10000 ∧ ∀ x : Int, 0 ≤ x → x < (s.2 6) 2 → (s.2 16) x = 0) (x1 : Int) (x2 : Int) (x3 : Int) (f14 : Int → Int) (f15 : Int → Int) (f16 : Int → Int) (f17 : Int → Int) (hI : (0 ≤ x1 ∧ x1 < s.2 6 2) ∧ f14 = lay x1 (tl (s.2 13)) (s.2 14) ∧ f16 = lay (s.2 6 2) (rg (s.2 13)) (s.2 16) ∧ FI (s.2 13) (s.2 6 2) f15 (s.2 15) x1 ∧ (0 ≤ x3 ∧ x3 ≤ tl (s.2 13) x1) ∧ x2 = it (s.2 13) x1 x3.toNat) (o_1 : (0 ≤ x2 ∧ x2 < 10000)) (c_2 : (f16 x2) = 0) : (0 ≤ x1 ∧ x1 < s.2 6 2) ∧ f14 = lay x1 (tl (s.2 13)) (s.2 14) ∧ f16 = lay (s.2 6 2) (rg (s.2 13)) (s.2 16) ∧ FI (s.2 13) (s.2 6 2) f15 (s.2 15) x1 ∧ (0 ≤ (i32 (x3 + 1)) ∧ (i32 (x3 + 1)) ≤ tl (s.2 13) x1) ∧ (s.2 13 x2) = it (s.2 13) x1 (i32 (x3 + 1)).toNat := by
  obtain ⟨hg, hN0, hN1, hz⟩ := hp
  obtain ⟨⟨i0, i1⟩, e14, e16, hF, ⟨t0, t1⟩, rfl⟩ := hI
  have hs := tl_sp hg i0 i1
  have hb := it_b hg i0 i1 x3.toNat
  rw [e16, lay_at hb.1 hb.2] at c_2
  have hn : ¬ cyc (s.2 13) (it (s.2 13) x1 x3.toNat) := fun h => by have := (rg_sp h).1; omega
  have hne : x3 ≠ tl (s.2 13) x1 := fun e => hn (by rw [e]; exact hs.2.1)
  rw [i32_id (x := x3 + 1) (by omega) (by omega)]
  exact ⟨⟨i0, i1⟩, e14, e16, hF, by omega, by rw [show (x3 + 1).toNat = x3.toNat + 1 by omega]; rfl⟩
theorem vX3_gathers_33 (s : MS) (hp : rng (s.2 13) ((s.2 6) 2) ∧ 0 ≤ (s.2 6) 2 ∧ (s.2 6) 2 ≤ 10000 ∧ ∀ x : Int, 0 ≤ x → x < (s.2 6) 2 → (s.2 16) x = 0) (x1 : Int) (x2 : Int) (x3 : Int) (f14 : Int → Int) (f15 : Int → Int) (f16 : Int → Int) (f17 : Int → Int) (hI : (0 ≤ x1 ∧ x1 < s.2 6 2) ∧ f14 = lay x1 (tl (s.2 13)) (s.2 14) ∧ f16 = lay (s.2 6 2) (rg (s.2 13)) (s.2 16) ∧ FI (s.2 13) (s.2 6 2) f15 (s.2 15) x1 ∧ (0 ≤ x3 ∧ x3 ≤ tl (s.2 13) x1) ∧ x2 = it (s.2 13) x1 x3.toNat) (o_1 : (0 ≤ x2 ∧ x2 < 10000)) (c_2 : (f16 x2) = 0) : lex3 0 ((s.2 6 2 - x1).toNat - 1) ((tl (s.2 13) x1 - (i32 (x3 + 1))).toNat + 1) 0 ((s.2 6 2 - x1).toNat - 1) ((tl (s.2 13) x1 - x3).toNat + 1) := by
  obtain ⟨hg, hN0, hN1, hz⟩ := hp
  obtain ⟨⟨i0, i1⟩, e14, e16, hF, ⟨t0, t1⟩, rfl⟩ := hI
  have hs := tl_sp hg i0 i1
  have hb := it_b hg i0 i1 x3.toNat
  rw [e16, lay_at hb.1 hb.2] at c_2
  have hn : ¬ cyc (s.2 13) (it (s.2 13) x1 x3.toNat) := fun h => by have := (rg_sp h).1; omega
  have hne : x3 ≠ tl (s.2 13) x1 := fun e => hn (by rw [e]; exact hs.2.1)
  rw [i32_id (x := x3 + 1) (by omega) (by omega)]
  unfold lex3
  omega
theorem vX3_gathers_34 (s : MS) (hp : rng (s.2 13) ((s.2 6) 2) ∧ 0 ≤ (s.2 6) 2 ∧ (s.2 6) 2 ≤ 10000 ∧ ∀ x : Int, 0 ≤ x → x < (s.2 6) 2 → (s.2 16) x = 0) : (0 ≤ (0 : Int) ∧ (0 : Int) ≤ s.2 6 2) ∧ (s.2 14) = s.2 14 ∧ (s.2 15) = lay (0 : Int) (fun _ => -1) (s.2 15) ∧ (s.2 16) = s.2 16 ∧ (s.2 17) = lay (0 : Int) (fun _ => -1) (s.2 17) := by
  obtain ⟨hg, hN0, hN1, hz⟩ := hp
  exact ⟨by omega, rfl, (lay_0 _ _ (Int.le_refl _)).symm, rfl, (lay_0 _ _ (Int.le_refl _)).symm⟩
theorem allX3_gathers (b : AH) (s : MS) (hp : rng (s.2 13) ((s.2 6) 2) ∧ 0 ≤ (s.2 6) 2 ∧ (s.2 6) 2 ≤ 10000 ∧ ∀ x : Int, 0 ≤ x → x < (s.2 6) 2 → (s.2 16) x = 0) : ∀ m1 m2 m3 : Nat, (∀ (x1 : Int) (f14 : Int → Int) (f15 : Int → Int) (f16 : Int → Int) (f17 : Int → Int), m1 = 2 → m2 = ((s.2 6 2 - x1).toNat) → m3 = 0 → ((0 ≤ x1 ∧ x1 ≤ s.2 6 2) ∧ f14 = s.2 14 ∧ f15 = lay x1 (fun _ => -1) (s.2 15) ∧ f16 = s.2 16 ∧ f17 = lay x1 (fun _ => -1) (s.2 17)) → HX3_gathers_2 (QX3_gathers s) b s x1 f14 f15 f16 f17) ∧ (∀ (x1 : Int) (f14 : Int → Int) (f15 : Int → Int) (f16 : Int → Int) (f17 : Int → Int), m1 = 1 → m2 = ((s.2 6 2 - x1).toNat) → m3 = 0 → ((0 ≤ x1 ∧ x1 ≤ s.2 6 2) ∧ f14 = s.2 14 ∧ MK (s.2 13) (s.2 6 2) f15 f16 f17 (s.2 15) (s.2 16) x1) → HX3_gathers_34 (QX3_gathers s) b s x1 f14 f15 f16 f17) ∧ (∀ (x1 : Int) (x2 : Int) (f14 : Int → Int) (f15 : Int → Int) (f16 : Int → Int) (f17 : Int → Int), m1 = 1 → m2 = ((s.2 6 2 - x1).toNat - 1) → m3 = ((cnt f17 (-1) (s.2 6 2).toNat).toNat + 1) → ((0 ≤ x1 ∧ x1 < s.2 6 2) ∧ f14 = s.2 14 ∧ PT (s.2 13) (s.2 6 2) f15 f16 f17 (s.2 15) (s.2 16) x1 x2) → HX3_gathers_59 (QX3_gathers s) b s x1 x2 f14 f15 f16 f17) ∧ (∀ (x1 : Int) (f14 : Int → Int) (f15 : Int → Int) (f16 : Int → Int) (f17 : Int → Int), m1 = 0 → m2 = ((s.2 6 2 - x1).toNat) → m3 = 0 → ((0 ≤ x1 ∧ x1 ≤ s.2 6 2) ∧ f14 = lay x1 (tl (s.2 13)) (s.2 14) ∧ f16 = lay (s.2 6 2) (rg (s.2 13)) (s.2 16) ∧ FI (s.2 13) (s.2 6 2) f15 (s.2 15) x1) → HX3_gathers_119 (QX3_gathers s) b s x1 f14 f15 f16 f17) ∧ (∀ (x1 : Int) (x2 : Int) (x3 : Int) (f14 : Int → Int) (f15 : Int → Int) (f16 : Int → Int) (f17 : Int → Int), m1 = 0 → m2 = ((s.2 6 2 - x1).toNat - 1) → m3 = ((tl (s.2 13) x1 - x3).toNat + 1) → ((0 ≤ x1 ∧ x1 < s.2 6 2) ∧ f14 = lay x1 (tl (s.2 13)) (s.2 14) ∧ f16 = lay (s.2 6 2) (rg (s.2 13)) (s.2 16) ∧ FI (s.2 13) (s.2 6 2) f15 (s.2 15) x1 ∧ (0 ≤ x3 ∧ x3 ≤ tl (s.2 13) x1) ∧ x2 = it (s.2 13) x1 x3.toNat) → HX3_gathers_133 (QX3_gathers s) b s x1 x2 x3 f14 f15 f16 f17) := by
  refine lex3_ind ?_
  intro m1 m2 m3 ih
  refine ⟨?_, ?_, ?_, ?_, ?_⟩
  · rintro x1 f14 f15 f16 f17 rfl rfl rfl hI
    refine bX3_gathers_2 b s x1 f14 f15 f16 f17 ?_
    refine ⟨fun c_1 => ?_, fun c_1 => ?_⟩
    · exact (ih _ _ _ (vX3_gathers_2 s hp x1 f14 f15 f16 f17 hI c_1)).2.1 0 f14 f15 f16 f17 rfl rfl rfl (vX3_gathers_1 s hp x1 f14 f15 f16 f17 hI c_1)
    · have o_2 : (0 ≤ x1 ∧ x1 < 10000) := (vX3_gathers_3 s hp x1 f14 f15 f16 f17 hI c_1)
      refine ⟨o_2, ?_⟩
      exact (ih _ _ _ (vX3_gathers_5 s hp x1 f14 f15 f16 f17 hI c_1 o_2)).1 (i32 (x1 + 1)) f14 (upI f15 x1 (-1)) f16 (upI f17 x1 (-1)) rfl rfl rfl (vX3_gathers_4 s hp x1 f14 f15 f16 f17 hI c_1 o_2)
  · rintro x1 f14 f15 f16 f17 rfl rfl rfl hI
    refine bX3_gathers_34 b s x1 f14 f15 f16 f17 ?_
    refine ⟨fun c_1 => ?_, fun c_1 => ?_⟩
    · exact (ih _ _ _ (vX3_gathers_7 s hp x1 f14 f15 f16 f17 hI c_1)).2.2.2.1 0 f14 f15 f16 f17 rfl rfl rfl (vX3_gathers_6 s hp x1 f14 f15 f16 f17 hI c_1)
    · have o_2 : (0 ≤ x1 ∧ x1 < 10000) := (vX3_gathers_8 s hp x1 f14 f15 f16 f17 hI c_1)
      refine ⟨o_2, ?_⟩
      refine ⟨fun c_3 => ?_, fun c_3 => ?_⟩
      · exact (ih _ _ _ (vX3_gathers_10 s hp x1 f14 f15 f16 f17 hI c_1 o_2 c_3)).2.2.1 x1 x1 f14 f15 f16 f17 rfl rfl rfl (vX3_gathers_9 s hp x1 f14 f15 f16 f17 hI c_1 o_2 c_3)
      · exact (ih _ _ _ (vX3_gathers_12 s hp x1 f14 f15 f16 f17 hI c_1 o_2 c_3)).2.1 (i32 (x1 + 1)) f14 f15 f16 f17 rfl rfl rfl (vX3_gathers_11 s hp x1 f14 f15 f16 f17 hI c_1 o_2 c_3)
  · rintro x1 x2 f14 f15 f16 f17 rfl rfl rfl hI
    refine bX3_gathers_59 b s x1 x2 f14 f15 f16 f17 ?_
    have o_1 : (0 ≤ x2 ∧ x2 < 10000) := (vX3_gathers_13 s hp x1 x2 f14 f15 f16 f17 hI)
    refine ⟨o_1, ?_⟩
    refine ⟨fun c_2 => ?_, fun c_2 => ?_⟩
    · refine ⟨fun c_3 => ?_, fun c_3 => ?_⟩
      · exact (ih _ _ _ (vX3_gathers_15 s hp x1 x2 f14 f15 f16 f17 hI o_1 c_2 c_3)).2.1 (i32 (x1 + 1)) f14 f15 f16 f17 rfl rfl rfl (vX3_gathers_14 s hp x1 x2 f14 f15 f16 f17 hI o_1 c_2 c_3)
      · refine ⟨fun c_4 => ?_, fun c_4 => ?_⟩
        · exact (ih _ _ _ (vX3_gathers_17 s hp x1 x2 f14 f15 f16 f17 hI o_1 c_2 c_3 c_4)).2.1 (i32 (x1 + 1)) f14 f15 f16 f17 rfl rfl rfl (vX3_gathers_16 s hp x1 x2 f14 f15 f16 f17 hI o_1 c_2 c_3 c_4)
        · have o_5 : (rng (s.2 13) ((s.2 6) 2) ∧ 0 ≤ (s.2 6) 2 ∧ (s.2 6) 2 ≤ 10000 ∧ 0 ≤ x2 ∧ x2 < (s.2 6) 2 ∧ cyc (s.2 13) x2) := (vX3_gathers_18 s hp x1 x2 f14 f15 f16 f17 hI o_1 c_2 c_3 c_4)
          refine ⟨o_5, ?_⟩
          exact (ih _ _ _ (vX3_gathers_20 s hp x1 x2 f14 f15 f16 f17 hI o_1 c_2 c_3 c_4 o_5)).2.1 (i32 (x1 + 1)) f14 (layO (orb (s.2 13) x2) (hm (s.2 13) x2) f15) (layO (orb (s.2 13) x2) (rg (s.2 13) x2) f16) f17 rfl rfl rfl (vX3_gathers_19 s hp x1 x2 f14 f15 f16 f17 hI o_1 c_2 c_3 c_4 o_5)
    · exact (ih _ _ _ (vX3_gathers_22 s hp x1 x2 f14 f15 f16 f17 hI o_1 c_2)).2.2.1 x1 (s.2 13 x2) f14 f15 f16 (upI f17 x2 x1) rfl rfl rfl (vX3_gathers_21 s hp x1 x2 f14 f15 f16 f17 hI o_1 c_2)
  · rintro x1 f14 f15 f16 f17 rfl rfl rfl hI
    refine bX3_gathers_119 b s x1 f14 f15 f16 f17 ?_
    refine ⟨fun c_1 => ?_, fun c_1 => ?_⟩
    · exact ⟨f17, rfl, (sA_c (sA_c (sA_c (sA_c rfl (vX3_gathers_23 s hp x1 f14 f15 f16 f17 hI c_1)) (vX3_gathers_24 s hp x1 f14 f15 f16 f17 hI c_1)) (vX3_gathers_25 s hp x1 f14 f15 f16 f17 hI c_1)) rfl)⟩
    · exact (ih _ _ _ (vX3_gathers_27 s hp x1 f14 f15 f16 f17 hI c_1)).2.2.2.2 x1 x1 0 f14 f15 f16 f17 rfl rfl rfl (vX3_gathers_26 s hp x1 f14 f15 f16 f17 hI c_1)
  · rintro x1 x2 x3 f14 f15 f16 f17 rfl rfl rfl hI
    refine bX3_gathers_133 b s x1 x2 x3 f14 f15 f16 f17 ?_
    have o_1 : (0 ≤ x2 ∧ x2 < 10000) := (vX3_gathers_28 s hp x1 x2 x3 f14 f15 f16 f17 hI)
    refine ⟨o_1, ?_⟩
    refine ⟨fun c_2 => ?_, fun c_2 => ?_⟩
    · have o_3 : (0 ≤ x1 ∧ x1 < 10000) := (vX3_gathers_29 s hp x1 x2 x3 f14 f15 f16 f17 hI o_1 c_2)
      refine ⟨o_3, ?_⟩
      exact (ih _ _ _ (vX3_gathers_31 s hp x1 x2 x3 f14 f15 f16 f17 hI o_1 c_2 o_3)).2.2.2.1 (i32 (x1 + 1)) (upI f14 x1 x3) (upI f15 x1 (f15 x2)) f16 f17 rfl rfl rfl (vX3_gathers_30 s hp x1 x2 x3 f14 f15 f16 f17 hI o_1 c_2 o_3)
    · exact (ih _ _ _ (vX3_gathers_33 s hp x1 x2 x3 f14 f15 f16 f17 hI o_1 c_2)).2.2.2.2 x1 (s.2 13 x2) (i32 (x3 + 1)) f14 f15 f16 f17 rfl rfl rfl (vX3_gathers_32 s hp x1 x2 x3 f14 f15 f16 f17 hI o_1 c_2)
theorem ctX3_gathers (b : AH) (s : MS) (hp : rng (s.2 13) ((s.2 6) 2) ∧ 0 ≤ (s.2 6) 2 ∧ (s.2 6) 2 ≤ 10000 ∧ ∀ x : Int, 0 ≤ x → x < (s.2 6) 2 → (s.2 16) x = 0) : MC mX3_gathers 2 b s [] (QX3_gathers s) := by
  refine MC.of (by decide) rfl (Nat.le_of_ble_eq_true rfl) (JW.steq (s2 := sA (sA (sA (sA s 14 (s.2 14)) 15 (s.2 15)) 16 (s.2 16)) 17 (s.2 17)) (by simp only [sA_id, sS_id]) ?_)
  refine bX3_gathers_0 b s (s.2 14) (s.2 15) (s.2 16) (s.2 17) ?_
  exact (allX3_gathers b s hp _ _ _).1 0 (s.2 14) (s.2 15) (s.2 16) (s.2 17) rfl rfl rfl (vX3_gathers_34 s hp)
def HX3_goesAll_0 (Q : Option AV → MS → Prop) (b : AH) (s : MS) (f14 : Int → Int) (f15 : Int → Int) (f16 : Int → Int) (f17 : Int → Int) : Prop := MW mX3_goesAll 3 Q b 0 [(0, vR 351)] [] (sA (sA (sA (sA s 14 f14) 15 f15) 16 f16) 17 f17)
def HX3_goesAll_2 (Q : Option AV → MS → Prop) (b : AH) (s : MS) (x1 : Int) (f14 : Int → Int) (f15 : Int → Int) (f16 : Int → Int) (f17 : Int → Int) : Prop := MW mX3_goesAll 3 Q b 2 [(0, vR 351), (1, vI x1)] [] (sA (sA (sA (sA s 14 f14) 15 f15) 16 f16) 17 f17)
theorem bX3_goesAll_0 {Q : Option AV → MS → Prop} (b : AH) (s : MS) (f14 : Int → Int) (f15 : Int → Int) (f16 : Int → Int) (f17 : Int → Int) (K : HX3_goesAll_2 Q b s 0 f14 f15 f16 f17) : HX3_goesAll_0 Q b s f14 f15 f16 f17 := by
  refine JW.iconst dX3_goesAll_0 rfl ?_
  refine JW.istore_n (ls' := [(0, vR 351), (1, vI 0)]) dX3_goesAll_1 (Nat.le_of_ble_eq_true rfl) rfl ?_
  exact JW.pick [0, 1] rfl K
theorem bX3_goesAll_2 {Q : Option AV → MS → Prop} (b : AH) (s : MS) (x1 : Int) (f14 : Int → Int) (f15 : Int → Int) (f16 : Int → Int) (f17 : Int → Int) (K : ((s.2 6 2) ≤ x1 → (rng (s.2 13) ((s.2 6) 2) ∧ 0 ≤ (s.2 6) 2 ∧ (s.2 6) 2 ≤ 10000 ∧ ∀ x : Int, 0 ≤ x → x < (s.2 6) 2 → f16 x = 0) ∧ ((∀ (f_3 : Int → Int), Q none (sA (sA (sA (sA s 14 (lay ((s.2 6) 2) (tl (s.2 13)) f14)) 15 (lay ((s.2 6) 2) (hm (s.2 13)) f15)) 16 (lay ((s.2 6) 2) (rg (s.2 13)) f16)) 17 f_3)))) ∧ (¬ (s.2 6 2) ≤ x1 → (0 ≤ x1 ∧ x1 < 10000) ∧ (HX3_goesAll_2 Q b s (i32 (x1 + 1)) f14 f15 (upI f16 x1 0) f17))) : HX3_goesAll_2 Q b s x1 f14 f15 f16 f17 := by
  refine JW.iload_n dX3_goesAll_2 rfl ?_
  refine JW.aload_n dX3_goesAll_3 rfl ?_
  refine JW.mget (v := vR 358) dX3_goesAll_4 fX3_34 rfl ?_
  refine JW.iconst dX3_goesAll_7 rfl ?_
  refine JW.mald 6 (x := (s.2 6 2)) dX3_goesAll_8 (Nat.le_of_ble_eq_true rfl) rfl (by decide) (by decide) rfl ?_
  refine JW.icmp_ge (tgt := 25) dX3_goesAll_9 rfl (fun c_1 => ?_) (fun c_1 => ?_)
  · have K := K.1 c_1
    refine JW.aload_n dX3_goesAll_25 rfl ?_
    obtain ⟨o_2, K⟩ := K
    refine JW.mcall (As := []) dX3_goesAll_26 vX3_gathers rfl q1875 (ctX3_gathers b (sA (sA (sA (sA s 14 f14) 15 f15) 16 f16) 17 f17) o_2) (Nat.le_of_ble_eq_true rfl) rfl (Nat.le_of_ble_eq_true rfl) ?_
    rintro _ _ ⟨f_3, rfl, rfl⟩
    refine JW.steq (s2 := sA (sA (sA (sA s 14 (lay ((s.2 6) 2) (tl (s.2 13)) f14)) 15 (lay ((s.2 6) 2) (hm (s.2 13)) f15)) 16 (lay ((s.2 6) 2) (rg (s.2 13)) f16)) 17 f_3) (by simp only [sA_A, sS_S, sA_S, sA_lt, sS_lt, Nat.reduceLT, id_eq] <;> rfl) ?_
    replace K := K f_3
    exact JW.vreturn dX3_goesAll_29 rfl ⟨_, rfl, K⟩
  · have K := K.2 c_1
    refine JW.aload_n dX3_goesAll_12 rfl ?_
    refine JW.mget (v := vR 368) dX3_goesAll_13 fX3_65 rfl ?_
    refine JW.iload_n dX3_goesAll_16 rfl ?_
    refine JW.iconst dX3_goesAll_17 rfl ?_
    obtain ⟨o_5, K⟩ := K
    refine JW.mast 16 (f := f16) dX3_goesAll_18 (Nat.le_of_ble_eq_true rfl) rfl o_5.1 o_5.2 rfl ?_
    refine JW.steq (s2 := sA (sA (sA (sA s 14 f14) 15 f15) 16 (upI f16 x1 0)) 17 f17) (by simp only [sA_A, sS_S, sA_S, sA_lt, sS_lt, Nat.reduceLT, id_eq] <;> rfl) ?_
    refine JW.iinc (ls' := [(0, vR 351), (1, vI (i32 (x1 + 1)))]) dX3_goesAll_19 (Nat.le_of_ble_eq_true rfl) rfl rfl ?_
    refine JW.goto (tgt := 2) dX3_goesAll_22 rfl ?_
    exact JW.pick [0, 1] rfl K
def QX3_goesAll (s : MS) : Option AV → MS → Prop := fun v s' => ∃ (f17 : Int → Int), v = none ∧ s' = sA (sA (sA (sA s 14 (lay ((s.2 6) 2) (tl (s.2 13)) (s.2 14))) 15 (lay ((s.2 6) 2) (hm (s.2 13)) (s.2 15))) 16 (lay ((s.2 6) 2) (rg (s.2 13)) (s.2 16))) 17 f17
theorem vX3_goesAll_1 (s : MS) (hp : rng (s.2 13) ((s.2 6) 2) ∧ 0 ≤ (s.2 6) 2 ∧ (s.2 6) 2 ≤ 10000) (x1 : Int) (f14 : Int → Int) (f15 : Int → Int) (f16 : Int → Int) (f17 : Int → Int) (hI : (0 ≤ x1 ∧ x1 ≤ s.2 6 2) ∧ f14 = s.2 14 ∧ f15 = s.2 15 ∧ f16 = lay x1 (fun _ => 0) (s.2 16)) (c_1 : (s.2 6 2) ≤ x1) : (rng (s.2 13) ((s.2 6) 2) ∧ 0 ≤ (s.2 6) 2 ∧ (s.2 6) 2 ≤ 10000 ∧ ∀ x : Int, 0 ≤ x → x < (s.2 6) 2 → f16 x = 0) := by
  obtain ⟨hg, hN0, hN1⟩ := hp
  (try unfold lex3)
  (try simp only [bI_0, bI_n, Classical.not_not] at *)
  (try simp (disch := omega) only [i32_id] at *)
  first | done | omega | ((repeat' (with_reducible apply And.intro)) <;> first | assumption | rfl | omega | (rw [hI.2.2.2]; exact lay_s _ _ hI.1.1 rfl) | (exact (lay_0 _ _ (Int.le_refl _)).symm) | (rw [hI.2.2.2, show x1 = s.2 6 2 by omega]; intro z h0 h1; exact lay_at h0 h1) | (rw [hI.2.2.2, show x1 = s.2 6 2 by omega, lay_lay]) | (rw [hI.2.1]) | (rw [hI.2.2.1]) | grind [upI])
theorem vX3_goesAll_2 (s : MS) (hp : rng (s.2 13) ((s.2 6) 2) ∧ 0 ≤ (s.2 6) 2 ∧ (s.2 6) 2 ≤ 10000) (x1 : Int) (f14 : Int → Int) (f15 : Int → Int) (f16 : Int → Int) (f17 : Int → Int) (hI : (0 ≤ x1 ∧ x1 ≤ s.2 6 2) ∧ f14 = s.2 14 ∧ f15 = s.2 15 ∧ f16 = lay x1 (fun _ => 0) (s.2 16)) (c_1 : (s.2 6 2) ≤ x1) (o_2 : (rng (s.2 13) ((s.2 6) 2) ∧ 0 ≤ (s.2 6) 2 ∧ (s.2 6) 2 ≤ 10000 ∧ ∀ x : Int, 0 ≤ x → x < (s.2 6) 2 → f16 x = 0)) (f_3 : Int → Int) : (lay ((s.2 6) 2) (tl (s.2 13)) f14) = (lay ((s.2 6) 2) (tl (s.2 13)) (s.2 14)) := by
  obtain ⟨hg, hN0, hN1⟩ := hp
  (try unfold lex3)
  (try simp only [bI_0, bI_n, Classical.not_not] at *)
  (try simp (disch := omega) only [i32_id] at *)
  first | done | omega | ((repeat' (with_reducible apply And.intro)) <;> first | assumption | rfl | omega | (rw [hI.2.2.2]; exact lay_s _ _ hI.1.1 rfl) | (exact (lay_0 _ _ (Int.le_refl _)).symm) | (rw [hI.2.2.2, show x1 = s.2 6 2 by omega]; intro z h0 h1; exact lay_at h0 h1) | (rw [hI.2.2.2, show x1 = s.2 6 2 by omega, lay_lay]) | (rw [hI.2.1]) | (rw [hI.2.2.1]) | grind [upI])
theorem vX3_goesAll_3 (s : MS) (hp : rng (s.2 13) ((s.2 6) 2) ∧ 0 ≤ (s.2 6) 2 ∧ (s.2 6) 2 ≤ 10000) (x1 : Int) (f14 : Int → Int) (f15 : Int → Int) (f16 : Int → Int) (f17 : Int → Int) (hI : (0 ≤ x1 ∧ x1 ≤ s.2 6 2) ∧ f14 = s.2 14 ∧ f15 = s.2 15 ∧ f16 = lay x1 (fun _ => 0) (s.2 16)) (c_1 : (s.2 6 2) ≤ x1) (o_2 : (rng (s.2 13) ((s.2 6) 2) ∧ 0 ≤ (s.2 6) 2 ∧ (s.2 6) 2 ≤ 10000 ∧ ∀ x : Int, 0 ≤ x → x < (s.2 6) 2 → f16 x = 0)) (f_3 : Int → Int) : (lay ((s.2 6) 2) (hm (s.2 13)) f15) = (lay ((s.2 6) 2) (hm (s.2 13)) (s.2 15)) := by
  obtain ⟨hg, hN0, hN1⟩ := hp
  (try unfold lex3)
  (try simp only [bI_0, bI_n, Classical.not_not] at *)
  (try simp (disch := omega) only [i32_id] at *)
  first | done | omega | ((repeat' (with_reducible apply And.intro)) <;> first | assumption | rfl | omega | (rw [hI.2.2.2]; exact lay_s _ _ hI.1.1 rfl) | (exact (lay_0 _ _ (Int.le_refl _)).symm) | (rw [hI.2.2.2, show x1 = s.2 6 2 by omega]; intro z h0 h1; exact lay_at h0 h1) | (rw [hI.2.2.2, show x1 = s.2 6 2 by omega, lay_lay]) | (rw [hI.2.1]) | (rw [hI.2.2.1]) | grind [upI])
theorem vX3_goesAll_4 (s : MS) (hp : rng (s.2 13) ((s.2 6) 2) ∧ 0 ≤ (s.2 6) 2 ∧ (s.2 6) 2 ≤ 10000) (x1 : Int) (f14 : Int → Int) (f15 : Int → Int) (f16 : Int → Int) (f17 : Int → Int) (hI : (0 ≤ x1 ∧ x1 ≤ s.2 6 2) ∧ f14 = s.2 14 ∧ f15 = s.2 15 ∧ f16 = lay x1 (fun _ => 0) (s.2 16)) (c_1 : (s.2 6 2) ≤ x1) (o_2 : (rng (s.2 13) ((s.2 6) 2) ∧ 0 ≤ (s.2 6) 2 ∧ (s.2 6) 2 ≤ 10000 ∧ ∀ x : Int, 0 ≤ x → x < (s.2 6) 2 → f16 x = 0)) (f_3 : Int → Int) : (lay ((s.2 6) 2) (rg (s.2 13)) f16) = (lay ((s.2 6) 2) (rg (s.2 13)) (s.2 16)) := by
  obtain ⟨hg, hN0, hN1⟩ := hp
  (try unfold lex3)
  (try simp only [bI_0, bI_n, Classical.not_not] at *)
  (try simp (disch := omega) only [i32_id] at *)
  first | done | omega | ((repeat' (with_reducible apply And.intro)) <;> first | assumption | rfl | omega | (rw [hI.2.2.2]; exact lay_s _ _ hI.1.1 rfl) | (exact (lay_0 _ _ (Int.le_refl _)).symm) | (rw [hI.2.2.2, show x1 = s.2 6 2 by omega]; intro z h0 h1; exact lay_at h0 h1) | (rw [hI.2.2.2, show x1 = s.2 6 2 by omega, lay_lay]) | (rw [hI.2.1]) | (rw [hI.2.2.1]) | grind [upI])
theorem vX3_goesAll_5 (s : MS) (hp : rng (s.2 13) ((s.2 6) 2) ∧ 0 ≤ (s.2 6) 2 ∧ (s.2 6) 2 ≤ 10000) (x1 : Int) (f14 : Int → Int) (f15 : Int → Int) (f16 : Int → Int) (f17 : Int → Int) (hI : (0 ≤ x1 ∧ x1 ≤ s.2 6 2) ∧ f14 = s.2 14 ∧ f15 = s.2 15 ∧ f16 = lay x1 (fun _ => 0) (s.2 16)) (c_1 : ¬ (s.2 6 2) ≤ x1) : (0 ≤ x1 ∧ x1 < 10000) := by
  obtain ⟨hg, hN0, hN1⟩ := hp
  (try unfold lex3)
  (try simp only [bI_0, bI_n, Classical.not_not] at *)
  (try simp (disch := omega) only [i32_id] at *)
  first | done | omega | ((repeat' (with_reducible apply And.intro)) <;> first | assumption | rfl | omega | (rw [hI.2.2.2]; exact lay_s _ _ hI.1.1 rfl) | (exact (lay_0 _ _ (Int.le_refl _)).symm) | (rw [hI.2.2.2, show x1 = s.2 6 2 by omega]; intro z h0 h1; exact lay_at h0 h1) | (rw [hI.2.2.2, show x1 = s.2 6 2 by omega, lay_lay]) | (rw [hI.2.1]) | (rw [hI.2.2.1]) | grind [upI])
theorem vX3_goesAll_6 (s : MS) (hp : rng (s.2 13) ((s.2 6) 2) ∧ 0 ≤ (s.2 6) 2 ∧ (s.2 6) 2 ≤ 10000) (x1 : Int) (f14 : Int → Int) (f15 : Int → Int) (f16 : Int → Int) (f17 : Int → Int) (hI : (0 ≤ x1 ∧ x1 ≤ s.2 6 2) ∧ f14 = s.2 14 ∧ f15 = s.2 15 ∧ f16 = lay x1 (fun _ => 0) (s.2 16)) (c_1 : ¬ (s.2 6 2) ≤ x1) (o_5 : (0 ≤ x1 ∧ x1 < 10000)) : (0 ≤ (i32 (x1 + 1)) ∧ (i32 (x1 + 1)) ≤ s.2 6 2) ∧ f14 = s.2 14 ∧ f15 = s.2 15 ∧ (upI f16 x1 0) = lay (i32 (x1 + 1)) (fun _ => 0) (s.2 16) := by
  obtain ⟨hg, hN0, hN1⟩ := hp
  (try unfold lex3)
  (try simp only [bI_0, bI_n, Classical.not_not] at *)
  (try simp (disch := omega) only [i32_id] at *)
  first | done | omega | ((repeat' (with_reducible apply And.intro)) <;> first | assumption | rfl | omega | (rw [hI.2.2.2]; exact lay_s _ _ hI.1.1 rfl) | (exact (lay_0 _ _ (Int.le_refl _)).symm) | (rw [hI.2.2.2, show x1 = s.2 6 2 by omega]; intro z h0 h1; exact lay_at h0 h1) | (rw [hI.2.2.2, show x1 = s.2 6 2 by omega, lay_lay]) | (rw [hI.2.1]) | (rw [hI.2.2.1]) | grind [upI])
theorem vX3_goesAll_7 (s : MS) (hp : rng (s.2 13) ((s.2 6) 2) ∧ 0 ≤ (s.2 6) 2 ∧ (s.2 6) 2 ≤ 10000) (x1 : Int) (f14 : Int → Int) (f15 : Int → Int) (f16 : Int → Int) (f17 : Int → Int) (hI : (0 ≤ x1 ∧ x1 ≤ s.2 6 2) ∧ f14 = s.2 14 ∧ f15 = s.2 15 ∧ f16 = lay x1 (fun _ => 0) (s.2 16)) (c_1 : ¬ (s.2 6 2) ≤ x1) (o_5 : (0 ≤ x1 ∧ x1 < 10000)) : lex3 0 0 ((s.2 6 2 - (i32 (x1 + 1))).toNat) 0 0 ((s.2 6 2 - x1).toNat) := by
  obtain ⟨hg, hN0, hN1⟩ := hp
  (try unfold lex3)
  (try simp only [bI_0, bI_n, Classical.not_not] at *)
  (try simp (disch := omega) only [i32_id] at *)
  first | done | omega | ((repeat' (with_reducible apply And.intro)) <;> first | assumption | rfl | omega | (rw [hI.2.2.2]; exact lay_s _ _ hI.1.1 rfl) | (exact (lay_0 _ _ (Int.le_refl _)).symm) | (rw [hI.2.2.2, show x1 = s.2 6 2 by omega]; intro z h0 h1; exact lay_at h0 h1) | (rw [hI.2.2.2, show x1 = s.2 6 2 by omega, lay_lay]) | (rw [hI.2.1]) | (rw [hI.2.2.1]) | grind [upI])
theorem vX3_goesAll_8 (s : MS) (hp : rng (s.2 13) ((s.2 6) 2) ∧ 0 ≤ (s.2 6) 2 ∧ (s.2 6) 2 ≤ 10000) : (0 ≤ (0 : Int) ∧ (0 : Int) ≤ s.2 6 2) ∧ (s.2 14) = s.2 14 ∧ (s.2 15) = s.2 15 ∧ (s.2 16) = lay (0 : Int) (fun _ => 0) (s.2 16) := by
  obtain ⟨hg, hN0, hN1⟩ := hp
  (try unfold lex3)
  (try simp only [bI_0, bI_n, Classical.not_not] at *)
  (try simp (disch := omega) only [i32_id] at *)
  first | done | omega | ((repeat' (with_reducible apply And.intro)) <;> first | assumption | rfl | omega | (rw [hI.2.2.2]; exact lay_s _ _ hI.1.1 rfl) | (exact (lay_0 _ _ (Int.le_refl _)).symm) | (rw [hI.2.2.2, show x1 = s.2 6 2 by omega]; intro z h0 h1; exact lay_at h0 h1) | (rw [hI.2.2.2, show x1 = s.2 6 2 by omega, lay_lay]) | (rw [hI.2.1]) | (rw [hI.2.2.1]) | grind [upI])
theorem allX3_goesAll (b : AH) (s : MS) (hp : rng (s.2 13) ((s.2 6) 2) ∧ 0 ≤ (s.2 6) 2 ∧ (s.2 6) 2 ≤ 10000) : ∀ m1 m2 m3 : Nat, (∀ (x1 : Int) (f14 : Int → Int) (f15 : Int → Int) (f16 : Int → Int) (f17 : Int → Int), m1 = 0 → m2 = 0 → m3 = ((s.2 6 2 - x1).toNat) → ((0 ≤ x1 ∧ x1 ≤ s.2 6 2) ∧ f14 = s.2 14 ∧ f15 = s.2 15 ∧ f16 = lay x1 (fun _ => 0) (s.2 16)) → HX3_goesAll_2 (QX3_goesAll s) b s x1 f14 f15 f16 f17) := by
  refine lex3_ind ?_
  intro m1 m2 m3 ih
  rintro x1 f14 f15 f16 f17 rfl rfl rfl hI
  refine bX3_goesAll_2 b s x1 f14 f15 f16 f17 ?_
  refine ⟨fun c_1 => ?_, fun c_1 => ?_⟩
  · have o_2 : (rng (s.2 13) ((s.2 6) 2) ∧ 0 ≤ (s.2 6) 2 ∧ (s.2 6) 2 ≤ 10000 ∧ ∀ x : Int, 0 ≤ x → x < (s.2 6) 2 → f16 x = 0) := (vX3_goesAll_1 s hp x1 f14 f15 f16 f17 hI c_1)
    refine ⟨o_2, ?_⟩
    intro f_3
    exact ⟨f_3, rfl, (sA_c (sA_c (sA_c (sA_c rfl (vX3_goesAll_2 s hp x1 f14 f15 f16 f17 hI c_1 o_2 f_3)) (vX3_goesAll_3 s hp x1 f14 f15 f16 f17 hI c_1 o_2 f_3)) (vX3_goesAll_4 s hp x1 f14 f15 f16 f17 hI c_1 o_2 f_3)) rfl)⟩
  · have o_5 : (0 ≤ x1 ∧ x1 < 10000) := (vX3_goesAll_5 s hp x1 f14 f15 f16 f17 hI c_1)
    refine ⟨o_5, ?_⟩
    exact (ih _ _ _ (vX3_goesAll_7 s hp x1 f14 f15 f16 f17 hI c_1 o_5)) (i32 (x1 + 1)) f14 f15 (upI f16 x1 0) f17 rfl rfl rfl (vX3_goesAll_6 s hp x1 f14 f15 f16 f17 hI c_1 o_5)
theorem ctX3_goesAll (b : AH) (s : MS) (hp : rng (s.2 13) ((s.2 6) 2) ∧ 0 ≤ (s.2 6) 2 ∧ (s.2 6) 2 ≤ 10000) : MC mX3_goesAll 3 b s [] (QX3_goesAll s) := by
  refine MC.of (by decide) rfl (Nat.le_of_ble_eq_true rfl) (JW.steq (s2 := sA (sA (sA (sA s 14 (s.2 14)) 15 (s.2 15)) 16 (s.2 16)) 17 (s.2 17)) (by simp only [sA_id, sS_id]) ?_)
  refine bX3_goesAll_0 b s (s.2 14) (s.2 15) (s.2 16) (s.2 17) ?_
  exact (allX3_goesAll b s hp _ _ _) 0 (s.2 14) (s.2 15) (s.2 16) (s.2 17) rfl rfl rfl (vX3_goesAll_8 s hp)
def HX3_all_0 (Q : Option AV → MS → Prop) (b : AH) (s : MS) (f11 : Int → Int) (f12 : Int → Int) (f13 : Int → Int) (f14 : Int → Int) (f15 : Int → Int) (f16 : Int → Int) (f17 : Int → Int) (k25 : Int) : Prop := MW mX3_all 7 Q b 0 [(0, vR 351)] [] (sS (sA (sA (sA (sA (sA (sA (sA s 11 f11) 12 f12) 13 f13) 14 f14) 15 f15) 16 f16) 17 f17) 25 k25)
theorem bX3_all_0 {Q : Option AV → MS → Prop} (b : AH) (s : MS) (f11 : Int → Int) (f12 : Int → Int) (f13 : Int → Int) (f14 : Int → Int) (f15 : Int → Int) (f16 : Int → Int) (f17 : Int → Int) (k25 : Int) (K : (tOK (s.2 6) ∧ aOK (s.2 6) (s.2 7)) ∧ ((∀ (f_2 : Int → Int) (f_3 : Int → Int) (f_4 : Int → Int) (k_5 : Int), (NXO (s.2 6) (s.2 7) f_4) → (rng f_4 ((s.2 6) 2) ∧ 0 ≤ (s.2 6) 2 ∧ (s.2 6) 2 ≤ 10000) ∧ ((∀ (f_8 : Int → Int), Q none (sS (sA (sA (sA (sA (sA (sA (sA s 11 f_2) 12 f_3) 13 f_4) 14 (lay ((s.2 6) 2) (tl f_4) f14)) 15 (lay ((s.2 6) 2) (hm f_4) f15)) 16 (lay ((s.2 6) 2) (rg f_4) f16)) 17 f_8) 25 k_5)))))) : HX3_all_0 Q b s f11 f12 f13 f14 f15 f16 f17 k25 := by
  refine JW.aload_n dX3_all_0 rfl ?_
  obtain ⟨o_1, K⟩ := K
  refine JW.mcall (As := []) dX3_all_1 vX3_lays rfl q1867 (ctX3_lays b (sS (sA (sA (sA (sA (sA (sA (sA s 11 f11) 12 f12) 13 f13) 14 f14) 15 f15) 16 f16) 17 f17) 25 k25) o_1) (Nat.le_of_ble_eq_true rfl) rfl (Nat.le_of_ble_eq_true rfl) ?_
  rintro _ _ ⟨f_2, f_3, f_4, k_5, rfl, rfl, q_6⟩
  refine JW.steq (s2 := sS (sA (sA (sA (sA (sA (sA (sA s 11 f_2) 12 f_3) 13 f_4) 14 f14) 15 f15) 16 f16) 17 f17) 25 k_5) (by simp only [sA_A, sS_S, sA_S, sA_lt, sS_lt, Nat.reduceLT, id_eq] <;> rfl) ?_
  replace K := K f_2 f_3 f_4 k_5 q_6
  refine JW.aload_n dX3_all_4 rfl ?_
  obtain ⟨o_7, K⟩ := K
  refine JW.mcall (As := []) dX3_all_5 vX3_goesAll rfl q1871 (ctX3_goesAll b (sS (sA (sA (sA (sA (sA (sA (sA s 11 f_2) 12 f_3) 13 f_4) 14 f14) 15 f15) 16 f16) 17 f17) 25 k_5) o_7) (Nat.le_of_ble_eq_true rfl) rfl (Nat.le_of_ble_eq_true rfl) ?_
  rintro _ _ ⟨f_8, rfl, rfl⟩
  refine JW.steq (s2 := sS (sA (sA (sA (sA (sA (sA (sA s 11 f_2) 12 f_3) 13 f_4) 14 (lay ((s.2 6) 2) (tl f_4) f14)) 15 (lay ((s.2 6) 2) (hm f_4) f15)) 16 (lay ((s.2 6) 2) (rg f_4) f16)) 17 f_8) 25 k_5) (by simp only [sA_A, sS_S, sA_S, sA_lt, sS_lt, Nat.reduceLT, id_eq] <;> rfl) ?_
  replace K := K f_8
  exact JW.vreturn dX3_all_8 rfl ⟨_, rfl, K⟩
def QX3_all (s : MS) : Option AV → MS → Prop := fun v s' => ∃ (f11 : Int → Int) (f12 : Int → Int) (f13 : Int → Int) (f14 : Int → Int) (f15 : Int → Int) (f16 : Int → Int) (f17 : Int → Int) (k25 : Int), v = none ∧ s' = sS (sA (sA (sA (sA (sA (sA (sA s 11 f11) 12 f12) 13 f13) 14 f14) 15 f15) 16 f16) 17 f17) 25 k25 ∧ (GO (s.2 6) (s.2 7) f13 f14 f15 f16)
theorem vX3_all_1 (s : MS) (hp : tOK (s.2 6) ∧ aOK (s.2 6) (s.2 7)) : (tOK (s.2 6) ∧ aOK (s.2 6) (s.2 7)) := by
  obtain ⟨ht, ha⟩ := hp
  have hN := tOK_N ht
  (try unfold lex3)
  (try simp only [bI_0, bI_n, Classical.not_not] at *)
  (try simp (disch := omega) only [i32_id] at *)
  first | done | omega | ((repeat' (with_reducible apply And.intro)) <;> first | assumption | rfl | omega | (exact NXO_rng (by assumption)) | (exact GO_of (by assumption) rfl rfl rfl) | grind [upI])
theorem vX3_all_2 (s : MS) (hp : tOK (s.2 6) ∧ aOK (s.2 6) (s.2 7)) (o_1 : (tOK (s.2 6) ∧ aOK (s.2 6) (s.2 7))) (f_2 : Int → Int) (f_3 : Int → Int) (f_4 : Int → Int) (k_5 : Int) (q_6 : (NXO (s.2 6) (s.2 7) f_4)) : (rng f_4 ((s.2 6) 2) ∧ 0 ≤ (s.2 6) 2 ∧ (s.2 6) 2 ≤ 10000) := by
  obtain ⟨ht, ha⟩ := hp
  have hN := tOK_N ht
  (try unfold lex3)
  (try simp only [bI_0, bI_n, Classical.not_not] at *)
  (try simp (disch := omega) only [i32_id] at *)
  first | done | omega | ((repeat' (with_reducible apply And.intro)) <;> first | assumption | rfl | omega | (exact NXO_rng (by assumption)) | (exact GO_of (by assumption) rfl rfl rfl) | grind [upI])
theorem vX3_all_3 (s : MS) (hp : tOK (s.2 6) ∧ aOK (s.2 6) (s.2 7)) (o_1 : (tOK (s.2 6) ∧ aOK (s.2 6) (s.2 7))) (f_2 : Int → Int) (f_3 : Int → Int) (f_4 : Int → Int) (k_5 : Int) (q_6 : (NXO (s.2 6) (s.2 7) f_4)) (o_7 : (rng f_4 ((s.2 6) 2) ∧ 0 ≤ (s.2 6) 2 ∧ (s.2 6) 2 ≤ 10000)) (f_8 : Int → Int) : GO (s.2 6) (s.2 7) f_4 (lay ((s.2 6) 2) (tl f_4) (s.2 14)) (lay ((s.2 6) 2) (hm f_4) (s.2 15)) (lay ((s.2 6) 2) (rg f_4) (s.2 16)) := by
  obtain ⟨ht, ha⟩ := hp
  have hN := tOK_N ht
  (try unfold lex3)
  (try simp only [bI_0, bI_n, Classical.not_not] at *)
  (try simp (disch := omega) only [i32_id] at *)
  first | done | omega | ((repeat' (with_reducible apply And.intro)) <;> first | assumption | rfl | omega | (exact NXO_rng (by assumption)) | (exact GO_of (by assumption) rfl rfl rfl) | grind [upI])
theorem ctX3_all (b : AH) (s : MS) (hp : tOK (s.2 6) ∧ aOK (s.2 6) (s.2 7)) : MC mX3_all 7 b s [] (QX3_all s) := by
  refine MC.of (by decide) rfl (Nat.le_of_ble_eq_true rfl) (JW.steq (s2 := sS (sA (sA (sA (sA (sA (sA (sA s 11 (s.2 11)) 12 (s.2 12)) 13 (s.2 13)) 14 (s.2 14)) 15 (s.2 15)) 16 (s.2 16)) 17 (s.2 17)) 25 (s.1 25)) (by simp only [sA_id, sS_id]) ?_)
  refine bX3_all_0 b s (s.2 11) (s.2 12) (s.2 13) (s.2 14) (s.2 15) (s.2 16) (s.2 17) (s.1 25) ?_
  have o_1 : (tOK (s.2 6) ∧ aOK (s.2 6) (s.2 7)) := (vX3_all_1 s hp)
  refine ⟨o_1, ?_⟩
  intro f_2 f_3 f_4 k_5 q_6
  have o_7 : (rng f_4 ((s.2 6) 2) ∧ 0 ≤ (s.2 6) 2 ∧ (s.2 6) 2 ≤ 10000) := (vX3_all_2 s hp o_1 f_2 f_3 f_4 k_5 q_6)
  refine ⟨o_7, ?_⟩
  intro f_8
  exact ⟨f_2, f_3, f_4, (lay ((s.2 6) 2) (tl f_4) (s.2 14)), (lay ((s.2 6) 2) (hm f_4) (s.2 15)), (lay ((s.2 6) 2) (rg f_4) (s.2 16)), f_8, k_5, rfl, rfl, (vX3_all_3 s hp o_1 f_2 f_3 f_4 k_5 q_6 o_7 f_8)⟩
