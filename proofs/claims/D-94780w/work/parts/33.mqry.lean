/-! contracts of the reference: isTable isNumber isWord isSlot behind figure next_2 through size after ends_2 isHome manyRounds longest -/
set_option maxRecDepth 100000
def HX3_isTable_0 (Q : Option AV → MS → Prop) (b : AH) (s : MS) : Prop := MW mX3_isTable 1 Q b 0 [(0, vR 351)] [] s
theorem bX3_isTable_0 {Q : Option AV → MS → Prop} (b : AH) (s : MS) (K : ((s.2 5 0) ≤ 0 → Q (some (vI 0)) s) ∧ (¬ (s.2 5 0) ≤ 0 → Q (some (vI 1)) s)) : HX3_isTable_0 Q b s  := by
  refine JW.aload_n dX3_isTable_0 rfl ?_
  refine JW.mget (v := vR 357) dX3_isTable_1 fX3_31 rfl ?_
  refine JW.iconst dX3_isTable_4 rfl ?_
  refine JW.mald 5 (x := (s.2 5 0)) dX3_isTable_5 (Nat.le_of_ble_eq_true rfl) rfl (by decide) (by decide) rfl ?_
  refine JW.if_le (tgt := 13) dX3_isTable_6 rfl (fun c_1 => ?_) (fun c_1 => ?_)
  · have K := K.1 c_1
    refine JW.iconst dX3_isTable_13 rfl ?_
    exact JW.zreturn dX3_isTable_14 rfl (Or.inl rfl) ⟨_, rfl, K⟩
  · have K := K.2 c_1
    refine JW.iconst dX3_isTable_9 rfl ?_
    refine JW.goto (tgt := 14) dX3_isTable_10 rfl ?_
    exact JW.zreturn dX3_isTable_14 rfl (Or.inr rfl) ⟨_, rfl, K⟩
def QX3_isTable (s : MS) : Option AV → MS → Prop := fun v s' => v = some (vI (bI (0 < (s.2 5) 0))) ∧ s' = s
theorem vX3_isTable_1 (s : MS) (c_1 : (s.2 5 0) ≤ 0) : 0 = (bI (0 < (s.2 5) 0)) := by
  (try unfold lex3)
  (try simp only [bI_0, bI_n, Classical.not_not] at *)
  (try simp (disch := omega) only [i32_id] at *)
  first | done | omega | ((repeat' (with_reducible apply And.intro)) <;> first | assumption | rfl | omega | (rw [bI_f (by omega)]) | (rw [bI_t (by omega)]) | grind [upI])
theorem vX3_isTable_2 (s : MS) (c_1 : ¬ (s.2 5 0) ≤ 0) : 1 = (bI (0 < (s.2 5) 0)) := by
  (try unfold lex3)
  (try simp only [bI_0, bI_n, Classical.not_not] at *)
  (try simp (disch := omega) only [i32_id] at *)
  first | done | omega | ((repeat' (with_reducible apply And.intro)) <;> first | assumption | rfl | omega | (rw [bI_f (by omega)]) | (rw [bI_t (by omega)]) | grind [upI])
theorem ctX3_isTable (b : AH) (s : MS) : MC mX3_isTable 1 b s [] (QX3_isTable s) := by
  refine MC.of (by decide) rfl (Nat.le_of_ble_eq_true rfl) ?_
  refine bX3_isTable_0 b s  ?_
  refine ⟨fun c_1 => ?_, fun c_1 => ?_⟩
  · exact ⟨(rI_c (vX3_isTable_1 s c_1)), rfl⟩
  · exact ⟨(rI_c (vX3_isTable_2 s c_1)), rfl⟩
def HX3_isNumber_0 (Q : Option AV → MS → Prop) (b : AH) (s : MS) (x1 : Int) : Prop := MW mX3_isNumber 2 Q b 0 [(0, vR 351), (1, vL x1)] [] s
theorem bX3_isNumber_0 {Q : Option AV → MS → Prop} (b : AH) (s : MS) (x1 : Int) (K : Q (some (vI (bI ((0 : Int) ≤ x1 ∧ x1 ≤ (i64 ((s.2 6 2) - 1)))))) s) : HX3_isNumber_0 Q b s x1 := by
  refine JW.lload_n dX3_isNumber_0 rfl ?_
  refine JW.lconst (x := 0) dX3_isNumber_1 rfl ?_
  refine JW.aload_n dX3_isNumber_2 rfl ?_
  refine JW.mget (v := vR 358) dX3_isNumber_3 fX3_34 rfl ?_
  refine JW.iconst dX3_isNumber_6 rfl ?_
  refine JW.mald 6 (x := (s.2 6 2)) dX3_isNumber_7 (Nat.le_of_ble_eq_true rfl) rfl (by decide) (by decide) rfl ?_
  refine JW.i2l dX3_isNumber_8 ?_
  refine JW.lconst (x := 1) dX3_isNumber_9 rfl ?_
  refine JW.lsub dX3_isNumber_10 ?_
  refine JW.mcallS (As := [vL x1, vL 0, vL (i64 ((s.2 6 2) - 1))]) dX3_isNumber_11 vX3_in q1632 (ctX3_in b s x1 0 (i64 ((s.2 6 2) - 1))) (Nat.le_of_ble_eq_true rfl) rfl (Nat.le_of_ble_eq_true rfl) ?_
  rintro _ _ ⟨rfl, eq_1⟩
  refine JW.steq (s2 := s) eq_1 ?_
  exact JW.zreturn dX3_isNumber_14 rfl (bI_01 _) ⟨_, rfl, K⟩
def QX3_isNumber (s : MS) (a1 : Int) : Option AV → MS → Prop := fun v s' => v = some (vI (bI (0 ≤ a1 ∧ a1 < (s.2 6) 2))) ∧ s' = s
theorem vX3_isNumber_1 (s : MS) (a1 : Int) (hp : tOK (s.2 6)) : (bI ((0 : Int) ≤ a1 ∧ a1 ≤ (i64 ((s.2 6 2) - 1)))) = (bI (0 ≤ a1 ∧ a1 < (s.2 6) 2)) := by
  have hN := tOK_N hp
  rw [show i64 (s.2 6 2 - 1) = s.2 6 2 - 1 from i64_id (by omega) (by omega)]
  exact bI_c (by omega)
theorem ctX3_isNumber (b : AH) (s : MS) (a1 : Int) (hp : tOK (s.2 6)) : MC mX3_isNumber 2 b s [vL a1] (QX3_isNumber s a1) := by
  refine MC.of (by decide) rfl (Nat.le_of_ble_eq_true rfl) ?_
  refine bX3_isNumber_0 b s a1 ?_
  exact ⟨(rI_c (vX3_isNumber_1 s a1 hp)), rfl⟩
def HX3_isWord_0 (Q : Option AV → MS → Prop) (b : AH) (s : MS) (x1 : Int) : Prop := MW mX3_isWord 2 Q b 0 [(0, vR 351), (1, vI x1)] [] s
theorem bX3_isWord_0 {Q : Option AV → MS → Prop} (b : AH) (s : MS) (x1 : Int) (K : Q (some (vI (bI ((0 : Int) ≤ x1 ∧ x1 ≤ (i32 ((s.2 6 3) - 1)))))) s) : HX3_isWord_0 Q b s x1 := by
  refine JW.iload_n dX3_isWord_0 rfl ?_
  refine JW.i2l dX3_isWord_1 ?_
  refine JW.lconst (x := 0) dX3_isWord_2 rfl ?_
  refine JW.aload_n dX3_isWord_3 rfl ?_
  refine JW.mget (v := vR 358) dX3_isWord_4 fX3_34 rfl ?_
  refine JW.iconst dX3_isWord_7 rfl ?_
  refine JW.mald 6 (x := (s.2 6 3)) dX3_isWord_8 (Nat.le_of_ble_eq_true rfl) rfl (by decide) (by decide) rfl ?_
  refine JW.iconst dX3_isWord_9 rfl ?_
  refine JW.isub dX3_isWord_10 ?_
  refine JW.i2l dX3_isWord_11 ?_
  refine JW.mcallS (As := [vL x1, vL 0, vL (i32 ((s.2 6 3) - 1))]) dX3_isWord_12 vX3_in q1632 (ctX3_in b s x1 0 (i32 ((s.2 6 3) - 1))) (Nat.le_of_ble_eq_true rfl) rfl (Nat.le_of_ble_eq_true rfl) ?_
  rintro _ _ ⟨rfl, eq_1⟩
  refine JW.steq (s2 := s) eq_1 ?_
  exact JW.zreturn dX3_isWord_15 rfl (bI_01 _) ⟨_, rfl, K⟩
def QX3_isWord (s : MS) (a1 : Int) : Option AV → MS → Prop := fun v s' => v = some (vI (bI (0 ≤ a1 ∧ a1 < (s.2 6) 3))) ∧ s' = s
theorem vX3_isWord_1 (s : MS) (a1 : Int) (hp : tOK (s.2 6)) : (bI ((0 : Int) ≤ a1 ∧ a1 ≤ (i32 ((s.2 6 3) - 1)))) = (bI (0 ≤ a1 ∧ a1 < (s.2 6) 3)) := by
  have hW := tOK_W hp
  rw [i32_id (by omega) (by omega)]
  exact bI_c (by omega)
theorem ctX3_isWord (b : AH) (s : MS) (a1 : Int) (hp : tOK (s.2 6)) : MC mX3_isWord 2 b s [vI a1] (QX3_isWord s a1) := by
  refine MC.of (by decide) rfl (Nat.le_of_ble_eq_true rfl) ?_
  refine bX3_isWord_0 b s a1 ?_
  exact ⟨(rI_c (vX3_isWord_1 s a1 hp)), rfl⟩
def HX3_isSlot_0 (Q : Option AV → MS → Prop) (b : AH) (s : MS) (x0 : Int) : Prop := MW mX3_isSlot 2 Q b 0 [(0, vI x0)] [] s
theorem bX3_isSlot_0 {Q : Option AV → MS → Prop} (b : AH) (s : MS) (x0 : Int) (K : Q (some (vI (bI ((0 : Int) ≤ x0 ∧ x0 ≤ (3 : Int))))) s) : HX3_isSlot_0 Q b s x0 := by
  refine JW.iload_n dX3_isSlot_0 rfl ?_
  refine JW.i2l dX3_isSlot_1 ?_
  refine JW.lconst (x := 0) dX3_isSlot_2 rfl ?_
  refine JW.ldc2 (x := 3) dX3_isSlot_3 q1631 rfl ?_
  refine JW.mcallS (As := [vL x0, vL 0, vL 3]) dX3_isSlot_6 vX3_in q1632 (ctX3_in b s x0 0 3) (Nat.le_of_ble_eq_true rfl) rfl (Nat.le_of_ble_eq_true rfl) ?_
  rintro _ _ ⟨rfl, eq_1⟩
  refine JW.steq (s2 := s) eq_1 ?_
  exact JW.zreturn dX3_isSlot_9 rfl (bI_01 _) ⟨_, rfl, K⟩
def QX3_isSlot (s : MS) (a1 : Int) : Option AV → MS → Prop := fun v s' => v = some (vI (bI (0 ≤ a1 ∧ a1 ≤ 3))) ∧ s' = s
theorem vX3_isSlot_1 (s : MS) (a1 : Int) : (bI ((0 : Int) ≤ a1 ∧ a1 ≤ (3 : Int))) = (bI (0 ≤ a1 ∧ a1 ≤ 3)) := by
  (try unfold lex3)
  (try simp only [bI_0, bI_n, Classical.not_not] at *)
  (try simp (disch := omega) only [i32_id] at *)
  first | done | omega | ((repeat' (with_reducible apply And.intro)) <;> first | assumption | rfl | omega | grind [upI])
theorem ctX3_isSlot (b : AH) (s : MS) (a1 : Int) : MCS mX3_isSlot 2 b s [vI a1] (QX3_isSlot s a1) := by
  refine MCS.of (by decide) rfl (Nat.le_of_ble_eq_true rfl) ?_
  refine bX3_isSlot_0 b s a1 ?_
  exact ⟨(rI_c (vX3_isSlot_1 s a1)), rfl⟩
def HX3_behind_0 (Q : Option AV → MS → Prop) (b : AH) (s : MS) (x1 : Int) (x2 : Int) : Prop := MW mX3_behind 1 Q b 0 [(0, vR 351), (1, vI x1), (2, vI x2)] [] s
def HX3_behind_5 (Q : Option AV → MS → Prop) (b : AH) (s : MS) (x2 : Int) (x3 : Int) (x4 : Int) : Prop := MW mX3_behind 1 Q b 5 [(0, vR 351), (2, vI x2), (3, vI x3), (4, vI x4)] [] s
theorem bX3_behind_0 {Q : Option AV → MS → Prop} (b : AH) (s : MS) (x1 : Int) (x2 : Int) (K : HX3_behind_5 Q b s x2 x1 0) : HX3_behind_0 Q b s x1 x2 := by
  refine JW.iload_n dX3_behind_0 rfl ?_
  refine JW.istore_n (ls' := [(0, vR 351), (1, vI x1), (2, vI x2), (3, vI x1)]) dX3_behind_1 (Nat.le_of_ble_eq_true rfl) rfl ?_
  refine JW.iconst dX3_behind_2 rfl ?_
  refine JW.istore (ls' := [(0, vR 351), (1, vI x1), (2, vI x2), (3, vI x1), (4, vI 0)]) dX3_behind_3 (Nat.le_of_ble_eq_true rfl) rfl ?_
  exact JW.pick [0, 2, 3, 4] rfl K
theorem bX3_behind_5 {Q : Option AV → MS → Prop} (b : AH) (s : MS) (x2 : Int) (x3 : Int) (x4 : Int) (K : (x2 ≤ x4 → Q (some (vI x3)) s) ∧ (¬ x2 ≤ x4 → (0 ≤ x3 ∧ x3 < 10000) ∧ (HX3_behind_5 Q b s x2 (s.2 13 x3) (i32 (x4 + 1))))) : HX3_behind_5 Q b s x2 x3 x4 := by
  refine JW.iload dX3_behind_5 rfl ?_
  refine JW.iload_n dX3_behind_7 rfl ?_
  refine JW.icmp_ge (tgt := 24) dX3_behind_8 rfl (fun c_1 => ?_) (fun c_1 => ?_)
  · have K := K.1 c_1
    refine JW.iload_n dX3_behind_24 rfl ?_
    exact JW.ireturn dX3_behind_25 rfl rfl ⟨_, rfl, K⟩
  · have K := K.2 c_1
    refine JW.aload_n dX3_behind_11 rfl ?_
    refine JW.mget (v := vR 365) dX3_behind_12 fX3_56 rfl ?_
    refine JW.iload_n dX3_behind_15 rfl ?_
    obtain ⟨o_2, K⟩ := K
    refine JW.mald 13 (x := (s.2 13 x3)) dX3_behind_16 (Nat.le_of_ble_eq_true rfl) rfl o_2.1 o_2.2 rfl ?_
    refine JW.istore_n (ls' := [(0, vR 351), (2, vI x2), (3, vI (s.2 13 x3)), (4, vI x4)]) dX3_behind_17 (Nat.le_of_ble_eq_true rfl) rfl ?_
    refine JW.iinc (ls' := [(0, vR 351), (2, vI x2), (3, vI (s.2 13 x3)), (4, vI (i32 (x4 + 1)))]) dX3_behind_18 (Nat.le_of_ble_eq_true rfl) rfl rfl ?_
    refine JW.goto (tgt := 5) dX3_behind_21 rfl ?_
    exact JW.pick [0, 2, 3, 4] rfl K
def QX3_behind (s : MS) (a1 : Int) (a2 : Int) : Option AV → MS → Prop := fun v s' => v = some (vI (it (s.2 13) a1 (a2).toNat)) ∧ s' = s
theorem vX3_behind_1 (s : MS) (a1 : Int) (a2 : Int) (hp : rng (s.2 13) ((s.2 6) 2) ∧ (s.2 6) 2 ≤ 10000 ∧ 0 ≤ a1 ∧ a1 < (s.2 6) 2 ∧ 0 ≤ a2 ∧ a2 ≤ 1000000000) (x2 : Int) (x3 : Int) (x4 : Int) (hI : x2 = a2 ∧ (0 ≤ x4 ∧ x4 ≤ a2) ∧ x3 = it (s.2 13) a1 x4.toNat) (c_1 : x2 ≤ x4) : x3 = (it (s.2 13) a1 (a2).toNat) := by
  obtain ⟨hg, hN, h0, h1, h2, h3⟩ := hp
  (try (have hb := it_b hg h0 h1 x4.toNat; rw [← hI.2.2] at hb))
  (try unfold lex3)
  (try simp only [bI_0, bI_n, Classical.not_not] at *)
  (try simp (disch := omega) only [i32_id] at *)
  first | done | omega | ((repeat' (with_reducible apply And.intro)) <;> first | assumption | rfl | omega | (rw [hI.2.2, show x4 = a2 by omega]) | (rw [hI.2.2, show (x4 + 1).toNat = x4.toNat + 1 by omega]; rfl) | grind [upI])
theorem vX3_behind_2 (s : MS) (a1 : Int) (a2 : Int) (hp : rng (s.2 13) ((s.2 6) 2) ∧ (s.2 6) 2 ≤ 10000 ∧ 0 ≤ a1 ∧ a1 < (s.2 6) 2 ∧ 0 ≤ a2 ∧ a2 ≤ 1000000000) (x2 : Int) (x3 : Int) (x4 : Int) (hI : x2 = a2 ∧ (0 ≤ x4 ∧ x4 ≤ a2) ∧ x3 = it (s.2 13) a1 x4.toNat) (c_1 : ¬ x2 ≤ x4) : (0 ≤ x3 ∧ x3 < 10000) := by
  obtain ⟨hg, hN, h0, h1, h2, h3⟩ := hp
  (try (have hb := it_b hg h0 h1 x4.toNat; rw [← hI.2.2] at hb))
  (try unfold lex3)
  (try simp only [bI_0, bI_n, Classical.not_not] at *)
  (try simp (disch := omega) only [i32_id] at *)
  first | done | omega | ((repeat' (with_reducible apply And.intro)) <;> first | assumption | rfl | omega | (rw [hI.2.2, show x4 = a2 by omega]) | (rw [hI.2.2, show (x4 + 1).toNat = x4.toNat + 1 by omega]; rfl) | grind [upI])
theorem vX3_behind_3 (s : MS) (a1 : Int) (a2 : Int) (hp : rng (s.2 13) ((s.2 6) 2) ∧ (s.2 6) 2 ≤ 10000 ∧ 0 ≤ a1 ∧ a1 < (s.2 6) 2 ∧ 0 ≤ a2 ∧ a2 ≤ 1000000000) (x2 : Int) (x3 : Int) (x4 : Int) (hI : x2 = a2 ∧ (0 ≤ x4 ∧ x4 ≤ a2) ∧ x3 = it (s.2 13) a1 x4.toNat) (c_1 : ¬ x2 ≤ x4) (o_2 : (0 ≤ x3 ∧ x3 < 10000)) : x2 = a2 ∧ (0 ≤ (i32 (x4 + 1)) ∧ (i32 (x4 + 1)) ≤ a2) ∧ (s.2 13 x3) = it (s.2 13) a1 (i32 (x4 + 1)).toNat := by
  obtain ⟨hg, hN, h0, h1, h2, h3⟩ := hp
  (try (have hb := it_b hg h0 h1 x4.toNat; rw [← hI.2.2] at hb))
  (try unfold lex3)
  (try simp only [bI_0, bI_n, Classical.not_not] at *)
  (try simp (disch := omega) only [i32_id] at *)
  first | done | omega | ((repeat' (with_reducible apply And.intro)) <;> first | assumption | rfl | omega | (rw [hI.2.2, show x4 = a2 by omega]) | (rw [hI.2.2, show (x4 + 1).toNat = x4.toNat + 1 by omega]; rfl) | grind [upI])
theorem vX3_behind_4 (s : MS) (a1 : Int) (a2 : Int) (hp : rng (s.2 13) ((s.2 6) 2) ∧ (s.2 6) 2 ≤ 10000 ∧ 0 ≤ a1 ∧ a1 < (s.2 6) 2 ∧ 0 ≤ a2 ∧ a2 ≤ 1000000000) (x2 : Int) (x3 : Int) (x4 : Int) (hI : x2 = a2 ∧ (0 ≤ x4 ∧ x4 ≤ a2) ∧ x3 = it (s.2 13) a1 x4.toNat) (c_1 : ¬ x2 ≤ x4) (o_2 : (0 ≤ x3 ∧ x3 < 10000)) : lex3 0 0 ((a2 - (i32 (x4 + 1))).toNat) 0 0 ((a2 - x4).toNat) := by
  obtain ⟨hg, hN, h0, h1, h2, h3⟩ := hp
  (try (have hb := it_b hg h0 h1 x4.toNat; rw [← hI.2.2] at hb))
  (try unfold lex3)
  (try simp only [bI_0, bI_n, Classical.not_not] at *)
  (try simp (disch := omega) only [i32_id] at *)
  first | done | omega | ((repeat' (with_reducible apply And.intro)) <;> first | assumption | rfl | omega | (rw [hI.2.2, show x4 = a2 by omega]) | (rw [hI.2.2, show (x4 + 1).toNat = x4.toNat + 1 by omega]; rfl) | grind [upI])
theorem vX3_behind_5 (s : MS) (a1 : Int) (a2 : Int) (hp : rng (s.2 13) ((s.2 6) 2) ∧ (s.2 6) 2 ≤ 10000 ∧ 0 ≤ a1 ∧ a1 < (s.2 6) 2 ∧ 0 ≤ a2 ∧ a2 ≤ 1000000000) : a2 = a2 ∧ (0 ≤ (0 : Int) ∧ (0 : Int) ≤ a2) ∧ a1 = it (s.2 13) a1 (0 : Int).toNat := by
  obtain ⟨hg, hN, h0, h1, h2, h3⟩ := hp
  (try (have hb := it_b hg h0 h1 x4.toNat; rw [← hI.2.2] at hb))
  (try unfold lex3)
  (try simp only [bI_0, bI_n, Classical.not_not] at *)
  (try simp (disch := omega) only [i32_id] at *)
  first | done | omega | ((repeat' (with_reducible apply And.intro)) <;> first | assumption | rfl | omega | (rw [hI.2.2, show x4 = a2 by omega]) | (rw [hI.2.2, show (x4 + 1).toNat = x4.toNat + 1 by omega]; rfl) | grind [upI])
theorem allX3_behind (b : AH) (s : MS) (a1 : Int) (a2 : Int) (hp : rng (s.2 13) ((s.2 6) 2) ∧ (s.2 6) 2 ≤ 10000 ∧ 0 ≤ a1 ∧ a1 < (s.2 6) 2 ∧ 0 ≤ a2 ∧ a2 ≤ 1000000000) : ∀ m1 m2 m3 : Nat, (∀ (x2 : Int) (x3 : Int) (x4 : Int), m1 = 0 → m2 = 0 → m3 = ((a2 - x4).toNat) → (x2 = a2 ∧ (0 ≤ x4 ∧ x4 ≤ a2) ∧ x3 = it (s.2 13) a1 x4.toNat) → HX3_behind_5 (QX3_behind s a1 a2) b s x2 x3 x4) := by
  refine lex3_ind ?_
  intro m1 m2 m3 ih
  rintro x2 x3 x4 rfl rfl rfl hI
  refine bX3_behind_5 b s x2 x3 x4 ?_
  refine ⟨fun c_1 => ?_, fun c_1 => ?_⟩
  · exact ⟨(rI_c (vX3_behind_1 s a1 a2 hp x2 x3 x4 hI c_1)), rfl⟩
  · have o_2 : (0 ≤ x3 ∧ x3 < 10000) := (vX3_behind_2 s a1 a2 hp x2 x3 x4 hI c_1)
    refine ⟨o_2, ?_⟩
    exact (ih _ _ _ (vX3_behind_4 s a1 a2 hp x2 x3 x4 hI c_1 o_2)) x2 (s.2 13 x3) (i32 (x4 + 1)) rfl rfl rfl (vX3_behind_3 s a1 a2 hp x2 x3 x4 hI c_1 o_2)
theorem ctX3_behind (b : AH) (s : MS) (a1 : Int) (a2 : Int) (hp : rng (s.2 13) ((s.2 6) 2) ∧ (s.2 6) 2 ≤ 10000 ∧ 0 ≤ a1 ∧ a1 < (s.2 6) 2 ∧ 0 ≤ a2 ∧ a2 ≤ 1000000000) : MC mX3_behind 1 b s [vI a1, vI a2] (QX3_behind s a1 a2) := by
  refine MC.of (by decide) rfl (Nat.le_of_ble_eq_true rfl) ?_
  refine bX3_behind_0 b s a1 a2 ?_
  exact (allX3_behind b s a1 a2 hp _ _ _) a2 a1 0 rfl rfl rfl (vX3_behind_5 s a1 a2 hp)
def HX3_figure_0 (Q : Option AV → MS → Prop) (b : AH) (s : MS) (x1 : Int) (x2 : Int) (f11 : Int → Int) (f12 : Int → Int) (f13 : Int → Int) (f14 : Int → Int) (f15 : Int → Int) (f16 : Int → Int) (f17 : Int → Int) (f18 : Int → Int) (f19 : Int → Int) (k0 : Int) (k25 : Int) (k33 : Int) (k34 : Int) : Prop := MW mX3_figure 3 Q b 0 [(0, vR 351), (1, vI x1), (2, vI x2)] [] (sS (sS (sS (sS (sA (sA (sA (sA (sA (sA (sA (sA (sA s 11 f11) 12 f12) 13 f13) 14 f14) 15 f15) 16 f16) 17 f17) 18 f18) 19 f19) 0 k0) 25 k25) 33 k33) 34 k34)
theorem bX3_figure_0 {Q : Option AV → MS → Prop} (b : AH) (s : MS) (x1 : Int) (x2 : Int) (f11 : Int → Int) (f12 : Int → Int) (f13 : Int → Int) (f14 : Int → Int) (f15 : Int → Int) (f16 : Int → Int) (f17 : Int → Int) (f18 : Int → Int) (f19 : Int → Int) (k0 : Int) (k25 : Int) (k33 : Int) (k34 : Int) (K : (tOK (s.2 6)) ∧ (((bI (0 ≤ x1 ∧ x1 < (s.2 6) 2)) = 0 → Q (some (vI (-2))) (sS (sS (sS (sS (sA (sA (sA (sA (sA (sA (sA (sA (sA s 11 f11) 12 f12) 13 f13) 14 f14) 15 f15) 16 f16) 17 f17) 18 f18) 19 f19) 0 0) 25 k25) 33 k33) 34 k34)) ∧ (¬ (bI (0 ≤ x1 ∧ x1 < (s.2 6) 2)) = 0 → (¬ (bI ((0 : Int) ≤ x2 ∧ x2 ≤ (i32 ((s.2 6 1) - 1)))) = 0 → (tOK (s.2 6) ∧ 0 ≤ x1 ∧ x1 ≤ 100000) ∧ ((0 ≤ x2 ∧ x2 < 8) ∧ (Q (some (vI ((figs ((s.2 6) 0) ((s.2 6) 1) x1 f11) x2))) (sS (sS (sS (sS (sA (sA (sA (sA (sA (sA (sA (sA (sA s 11 (figs ((s.2 6) 0) ((s.2 6) 1) x1 f11)) 12 f12) 13 f13) 14 f14) 15 f15) 16 f16) 17 f17) 18 f18) 19 f19) 0 0) 25 k25) 33 k33) 34 k34)))) ∧ ((bI ((0 : Int) ≤ x2 ∧ x2 ≤ (i32 ((s.2 6 1) - 1)))) = 0 → Q (some (vI (-2))) (sS (sS (sS (sS (sA (sA (sA (sA (sA (sA (sA (sA (sA s 11 f11) 12 f12) 13 f13) 14 f14) 15 f15) 16 f16) 17 f17) 18 f18) 19 f19) 0 0) 25 k25) 33 k33) 34 k34))))) : HX3_figure_0 Q b s x1 x2 f11 f12 f13 f14 f15 f16 f17 f18 f19 k0 k25 k33 k34 := by
  refine JW.aload_n dX3_figure_0 rfl ?_
  refine JW.iconst dX3_figure_1 rfl ?_
  refine JW.mputI dX3_figure_2 (pX3_77 _) rfl ?_
  refine JW.steq (s2 := sS (sS (sS (sS (sA (sA (sA (sA (sA (sA (sA (sA (sA s 11 f11) 12 f12) 13 f13) 14 f14) 15 f15) 16 f16) 17 f17) 18 f18) 19 f19) 0 0) 25 k25) 33 k33) 34 k34) (by simp only [sA_A, sS_S, sA_S, sA_lt, sS_lt, Nat.reduceLT, id_eq] <;> rfl) ?_
  refine JW.aload_n dX3_figure_5 rfl ?_
  refine JW.iload_n dX3_figure_6 rfl ?_
  refine JW.i2l dX3_figure_7 ?_
  obtain ⟨o_1, K⟩ := K
  refine JW.mcall (As := [vL x1]) dX3_figure_8 vX3_isNumber rfl q1806 (ctX3_isNumber b (sS (sS (sS (sS (sA (sA (sA (sA (sA (sA (sA (sA (sA s 11 f11) 12 f12) 13 f13) 14 f14) 15 f15) 16 f16) 17 f17) 18 f18) 19 f19) 0 0) 25 k25) 33 k33) 34 k34) x1 o_1) (Nat.le_of_ble_eq_true rfl) rfl (Nat.le_of_ble_eq_true rfl) ?_
  rintro _ _ ⟨rfl, eq_2⟩
  refine JW.steq (s2 := sS (sS (sS (sS (sA (sA (sA (sA (sA (sA (sA (sA (sA s 11 f11) 12 f12) 13 f13) 14 f14) 15 f15) 16 f16) 17 f17) 18 f18) 19 f19) 0 0) 25 k25) 33 k33) 34 k34) eq_2 ?_
  refine JW.if_eq (tgt := 32) dX3_figure_11 rfl (fun c_3 => ?_) (fun c_3 => ?_)
  · have K := K.1 c_3
    refine JW.bipush dX3_figure_32 rfl ?_
    exact JW.ireturn dX3_figure_34 rfl rfl ⟨_, rfl, K⟩
  · have K := K.2 c_3
    refine JW.iload_n dX3_figure_14 rfl ?_
    refine JW.i2l dX3_figure_15 ?_
    refine JW.lconst (x := 0) dX3_figure_16 rfl ?_
    refine JW.aload_n dX3_figure_17 rfl ?_
    refine JW.mget (v := vR 358) dX3_figure_18 fX3_34 rfl ?_
    refine JW.iconst dX3_figure_21 rfl ?_
    refine JW.mald 6 (x := (s.2 6 1)) dX3_figure_22 (Nat.le_of_ble_eq_true rfl) rfl (by decide) (by decide) rfl ?_
    refine JW.iconst dX3_figure_23 rfl ?_
    refine JW.isub dX3_figure_24 ?_
    refine JW.i2l dX3_figure_25 ?_
    refine JW.mcallS (As := [vL x2, vL 0, vL (i32 ((s.2 6 1) - 1))]) dX3_figure_26 vX3_in q1632 (ctX3_in b (sS (sS (sS (sS (sA (sA (sA (sA (sA (sA (sA (sA (sA s 11 f11) 12 f12) 13 f13) 14 f14) 15 f15) 16 f16) 17 f17) 18 f18) 19 f19) 0 0) 25 k25) 33 k33) 34 k34) x2 0 (i32 ((s.2 6 1) - 1))) (Nat.le_of_ble_eq_true rfl) rfl (Nat.le_of_ble_eq_true rfl) ?_
    rintro _ _ ⟨rfl, eq_4⟩
    refine JW.steq (s2 := sS (sS (sS (sS (sA (sA (sA (sA (sA (sA (sA (sA (sA s 11 f11) 12 f12) 13 f13) 14 f14) 15 f15) 16 f16) 17 f17) 18 f18) 19 f19) 0 0) 25 k25) 33 k33) 34 k34) eq_4 ?_
    refine JW.if_ne (tgt := 35) dX3_figure_29 rfl (fun c_5 => ?_) (fun c_5 => ?_)
    · have K := K.1 c_5
      refine JW.aload_n dX3_figure_35 rfl ?_
      refine JW.iload_n dX3_figure_36 rfl ?_
      obtain ⟨o_6, K⟩ := K
      refine JW.mcall (As := [vI x1]) dX3_figure_37 vX3_figures rfl q1810 (ctX3_figures b (sS (sS (sS (sS (sA (sA (sA (sA (sA (sA (sA (sA (sA s 11 f11) 12 f12) 13 f13) 14 f14) 15 f15) 16 f16) 17 f17) 18 f18) 19 f19) 0 0) 25 k25) 33 k33) 34 k34) x1 o_6) (Nat.le_of_ble_eq_true rfl) rfl (Nat.le_of_ble_eq_true rfl) ?_
      rintro _ _ ⟨rfl, rfl⟩
      refine JW.steq (s2 := sS (sS (sS (sS (sA (sA (sA (sA (sA (sA (sA (sA (sA s 11 (figs ((s.2 6) 0) ((s.2 6) 1) x1 f11)) 12 f12) 13 f13) 14 f14) 15 f15) 16 f16) 17 f17) 18 f18) 19 f19) 0 0) 25 k25) 33 k33) 34 k34) (by simp only [sA_A, sS_S, sA_S, sA_lt, sS_lt, Nat.reduceLT, id_eq] <;> rfl) ?_
      refine JW.aload_n dX3_figure_40 rfl ?_
      refine JW.mget (v := vR 363) dX3_figure_41 fX3_50 rfl ?_
      refine JW.iload_n dX3_figure_44 rfl ?_
      obtain ⟨o_8, K⟩ := K
      refine JW.mald 11 (x := ((figs ((s.2 6) 0) ((s.2 6) 1) x1 f11) x2)) dX3_figure_45 (Nat.le_of_ble_eq_true rfl) rfl o_8.1 o_8.2 rfl ?_
      exact JW.ireturn dX3_figure_46 rfl rfl ⟨_, rfl, K⟩
    · have K := K.2 c_5
      refine JW.bipush dX3_figure_32 rfl ?_
      exact JW.ireturn dX3_figure_34 rfl rfl ⟨_, rfl, K⟩
def QX3_figure (s : MS) (a1 : Int) (a2 : Int) : Option AV → MS → Prop := fun v s' => ∃ (f11 : Int → Int) (f12 : Int → Int) (f13 : Int → Int) (f14 : Int → Int) (f15 : Int → Int) (f16 : Int → Int) (f17 : Int → Int) (f18 : Int → Int) (f19 : Int → Int) (k25 : Int) (k33 : Int) (k34 : Int), v = some (vI (rFigure (s.2 6) a1 a2)) ∧ s' = sS (sS (sS (sS (sA (sA (sA (sA (sA (sA (sA (sA (sA s 11 f11) 12 f12) 13 f13) 14 f14) 15 f15) 16 f16) 17 f17) 18 f18) 19 f19) 0 (0)) 25 k25) 33 k33) 34 k34
theorem vX3_figure_1 (s : MS) (a1 : Int) (a2 : Int) (hp : tOK (s.2 6) ∧ aOK (s.2 6) (s.2 7)) : (tOK (s.2 6)) := by
  obtain ⟨ht, ha⟩ := hp
  have hN := tOK_N ht
  have hL := tOK_L ht
  (try unfold lex3)
  (try simp only [bI_0, bI_n, Classical.not_not] at *)
  (try simp (disch := omega) only [i32_id] at *)
  first | done | omega | ((repeat' (with_reducible apply And.intro)) <;> first | assumption | rfl | omega | (unfold rFigure; rw [if_neg (by omega)]) | (unfold rFigure; rw [if_pos (by omega)]; exact figs_at (by omega) (by omega)) | grind [upI])
theorem vX3_figure_2 (s : MS) (a1 : Int) (a2 : Int) (hp : tOK (s.2 6) ∧ aOK (s.2 6) (s.2 7)) (o_1 : (tOK (s.2 6))) (c_3 : (bI (0 ≤ a1 ∧ a1 < (s.2 6) 2)) = 0) : (-2) = (rFigure (s.2 6) a1 a2) := by
  obtain ⟨ht, ha⟩ := hp
  have hN := tOK_N ht
  have hL := tOK_L ht
  (try unfold lex3)
  (try simp only [bI_0, bI_n, Classical.not_not] at *)
  (try simp (disch := omega) only [i32_id] at *)
  first | done | omega | ((repeat' (with_reducible apply And.intro)) <;> first | assumption | rfl | omega | (unfold rFigure; rw [if_neg (by omega)]) | (unfold rFigure; rw [if_pos (by omega)]; exact figs_at (by omega) (by omega)) | grind [upI])
theorem vX3_figure_3 (s : MS) (a1 : Int) (a2 : Int) (hp : tOK (s.2 6) ∧ aOK (s.2 6) (s.2 7)) (o_1 : (tOK (s.2 6))) (c_3 : ¬ (bI (0 ≤ a1 ∧ a1 < (s.2 6) 2)) = 0) (c_5 : ¬ (bI ((0 : Int) ≤ a2 ∧ a2 ≤ (i32 ((s.2 6 1) - 1)))) = 0) : (tOK (s.2 6) ∧ 0 ≤ a1 ∧ a1 ≤ 100000) := by
  obtain ⟨ht, ha⟩ := hp
  have hN := tOK_N ht
  have hL := tOK_L ht
  (try unfold lex3)
  (try simp only [bI_0, bI_n, Classical.not_not] at *)
  (try simp (disch := omega) only [i32_id] at *)
  first | done | omega | ((repeat' (with_reducible apply And.intro)) <;> first | assumption | rfl | omega | (unfold rFigure; rw [if_neg (by omega)]) | (unfold rFigure; rw [if_pos (by omega)]; exact figs_at (by omega) (by omega)) | grind [upI])
theorem vX3_figure_4 (s : MS) (a1 : Int) (a2 : Int) (hp : tOK (s.2 6) ∧ aOK (s.2 6) (s.2 7)) (o_1 : (tOK (s.2 6))) (c_3 : ¬ (bI (0 ≤ a1 ∧ a1 < (s.2 6) 2)) = 0) (c_5 : ¬ (bI ((0 : Int) ≤ a2 ∧ a2 ≤ (i32 ((s.2 6 1) - 1)))) = 0) (o_6 : (tOK (s.2 6) ∧ 0 ≤ a1 ∧ a1 ≤ 100000)) : (0 ≤ a2 ∧ a2 < 8) := by
  obtain ⟨ht, ha⟩ := hp
  have hN := tOK_N ht
  have hL := tOK_L ht
  (try unfold lex3)
  (try simp only [bI_0, bI_n, Classical.not_not] at *)
  (try simp (disch := omega) only [i32_id] at *)
  first | done | omega | ((repeat' (with_reducible apply And.intro)) <;> first | assumption | rfl | omega | (unfold rFigure; rw [if_neg (by omega)]) | (unfold rFigure; rw [if_pos (by omega)]; exact figs_at (by omega) (by omega)) | grind [upI])
theorem vX3_figure_5 (s : MS) (a1 : Int) (a2 : Int) (hp : tOK (s.2 6) ∧ aOK (s.2 6) (s.2 7)) (o_1 : (tOK (s.2 6))) (c_3 : ¬ (bI (0 ≤ a1 ∧ a1 < (s.2 6) 2)) = 0) (c_5 : ¬ (bI ((0 : Int) ≤ a2 ∧ a2 ≤ (i32 ((s.2 6 1) - 1)))) = 0) (o_6 : (tOK (s.2 6) ∧ 0 ≤ a1 ∧ a1 ≤ 100000)) (o_8 : (0 ≤ a2 ∧ a2 < 8)) : ((figs ((s.2 6) 0) ((s.2 6) 1) a1 (s.2 11)) a2) = (rFigure (s.2 6) a1 a2) := by
  obtain ⟨ht, ha⟩ := hp
  have hN := tOK_N ht
  have hL := tOK_L ht
  (try unfold lex3)
  (try simp only [bI_0, bI_n, Classical.not_not] at *)
  (try simp (disch := omega) only [i32_id] at *)
  first | done | omega | ((repeat' (with_reducible apply And.intro)) <;> first | assumption | rfl | omega | (unfold rFigure; rw [if_neg (by omega)]) | (unfold rFigure; rw [if_pos (by omega)]; exact figs_at (by omega) (by omega)) | grind [upI])
theorem vX3_figure_6 (s : MS) (a1 : Int) (a2 : Int) (hp : tOK (s.2 6) ∧ aOK (s.2 6) (s.2 7)) (o_1 : (tOK (s.2 6))) (c_3 : ¬ (bI (0 ≤ a1 ∧ a1 < (s.2 6) 2)) = 0) (c_5 : (bI ((0 : Int) ≤ a2 ∧ a2 ≤ (i32 ((s.2 6 1) - 1)))) = 0) : (-2) = (rFigure (s.2 6) a1 a2) := by
  obtain ⟨ht, ha⟩ := hp
  have hN := tOK_N ht
  have hL := tOK_L ht
  (try unfold lex3)
  (try simp only [bI_0, bI_n, Classical.not_not] at *)
  (try simp (disch := omega) only [i32_id] at *)
  first | done | omega | ((repeat' (with_reducible apply And.intro)) <;> first | assumption | rfl | omega | (unfold rFigure; rw [if_neg (by omega)]) | (unfold rFigure; rw [if_pos (by omega)]; exact figs_at (by omega) (by omega)) | grind [upI])
theorem ctX3_figure (b : AH) (s : MS) (a1 : Int) (a2 : Int) (hp : tOK (s.2 6) ∧ aOK (s.2 6) (s.2 7)) : MC mX3_figure 3 b s [vI a1, vI a2] (QX3_figure s a1 a2) := by
  refine MC.of (by decide) rfl (Nat.le_of_ble_eq_true rfl) (JW.steq (s2 := sS (sS (sS (sS (sA (sA (sA (sA (sA (sA (sA (sA (sA s 11 (s.2 11)) 12 (s.2 12)) 13 (s.2 13)) 14 (s.2 14)) 15 (s.2 15)) 16 (s.2 16)) 17 (s.2 17)) 18 (s.2 18)) 19 (s.2 19)) 0 (s.1 0)) 25 (s.1 25)) 33 (s.1 33)) 34 (s.1 34)) (by simp only [sA_id, sS_id]) ?_)
  refine bX3_figure_0 b s a1 a2 (s.2 11) (s.2 12) (s.2 13) (s.2 14) (s.2 15) (s.2 16) (s.2 17) (s.2 18) (s.2 19) (s.1 0) (s.1 25) (s.1 33) (s.1 34) ?_
  have o_1 : (tOK (s.2 6)) := (vX3_figure_1 s a1 a2 hp)
  refine ⟨o_1, ?_⟩
  refine ⟨fun c_3 => ?_, fun c_3 => ?_⟩
  · exact ⟨(s.2 11), (s.2 12), (s.2 13), (s.2 14), (s.2 15), (s.2 16), (s.2 17), (s.2 18), (s.2 19), (s.1 25), (s.1 33), (s.1 34), (rI_c (vX3_figure_2 s a1 a2 hp o_1 c_3)), rfl⟩
  · refine ⟨fun c_5 => ?_, fun c_5 => ?_⟩
    · have o_6 : (tOK (s.2 6) ∧ 0 ≤ a1 ∧ a1 ≤ 100000) := (vX3_figure_3 s a1 a2 hp o_1 c_3 c_5)
      refine ⟨o_6, ?_⟩
      have o_8 : (0 ≤ a2 ∧ a2 < 8) := (vX3_figure_4 s a1 a2 hp o_1 c_3 c_5 o_6)
      refine ⟨o_8, ?_⟩
      exact ⟨(figs ((s.2 6) 0) ((s.2 6) 1) a1 (s.2 11)), (s.2 12), (s.2 13), (s.2 14), (s.2 15), (s.2 16), (s.2 17), (s.2 18), (s.2 19), (s.1 25), (s.1 33), (s.1 34), (rI_c (vX3_figure_5 s a1 a2 hp o_1 c_3 c_5 o_6 o_8)), rfl⟩
    · exact ⟨(s.2 11), (s.2 12), (s.2 13), (s.2 14), (s.2 15), (s.2 16), (s.2 17), (s.2 18), (s.2 19), (s.1 25), (s.1 33), (s.1 34), (rI_c (vX3_figure_6 s a1 a2 hp o_1 c_3 c_5)), rfl⟩
def HX3_next_2_0 (Q : Option AV → MS → Prop) (b : AH) (s : MS) (x1 : Int) (f11 : Int → Int) (f12 : Int → Int) (f13 : Int → Int) (f14 : Int → Int) (f15 : Int → Int) (f16 : Int → Int) (f17 : Int → Int) (f18 : Int → Int) (f19 : Int → Int) (k0 : Int) (k25 : Int) (k33 : Int) (k34 : Int) : Prop := MW mX3_next_2 8 Q b 0 [(0, vR 351), (1, vI x1)] [] (sS (sS (sS (sS (sA (sA (sA (sA (sA (sA (sA (sA (sA s 11 f11) 12 f12) 13 f13) 14 f14) 15 f15) 16 f16) 17 f17) 18 f18) 19 f19) 0 k0) 25 k25) 33 k33) 34 k34)
theorem bX3_next_2_0 {Q : Option AV → MS → Prop} (b : AH) (s : MS) (x1 : Int) (f11 : Int → Int) (f12 : Int → Int) (f13 : Int → Int) (f14 : Int → Int) (f15 : Int → Int) (f16 : Int → Int) (f17 : Int → Int) (f18 : Int → Int) (f19 : Int → Int) (k0 : Int) (k25 : Int) (k33 : Int) (k34 : Int) (K : (tOK (s.2 6)) ∧ (((bI (0 ≤ x1 ∧ x1 < (s.2 6) 2)) = 0 → Q (some (vI (-2))) (sS (sS (sS (sS (sA (sA (sA (sA (sA (sA (sA (sA (sA s 11 f11) 12 f12) 13 f13) 14 f14) 15 f15) 16 f16) 17 f17) 18 f18) 19 f19) 0 0) 25 k25) 33 k33) 34 k34)) ∧ (¬ (bI (0 ≤ x1 ∧ x1 < (s.2 6) 2)) = 0 → (tOK (s.2 6) ∧ aOK (s.2 6) (s.2 7) ∧ 0 ≤ x1 ∧ x1 < (s.2 6) 2 ∧ 0 ≤ (s.2 6 3) ∧ (s.2 6 3) ≤ (s.2 6) 3) ∧ ((∀ (f_5 : Int → Int) (f_6 : Int → Int), Q (some (vI ((thrS (s.2 6) (s.2 7) x1 ((s.2 6 3)).toNat).2))) (sS (sS (sS (sS (sA (sA (sA (sA (sA (sA (sA (sA (sA s 11 f_5) 12 f_6) 13 f13) 14 f14) 15 f15) 16 f16) 17 f17) 18 f18) 19 f19) 0 0) 25 ((thrS (s.2 6) (s.2 7) x1 ((s.2 6 3)).toNat).1)) 33 k33) 34 k34)))))) : HX3_next_2_0 Q b s x1 f11 f12 f13 f14 f15 f16 f17 f18 f19 k0 k25 k33 k34 := by
  refine JW.aload_n dX3_next_2_0 rfl ?_
  refine JW.iconst dX3_next_2_1 rfl ?_
  refine JW.mputI dX3_next_2_2 (pX3_77 _) rfl ?_
  refine JW.steq (s2 := sS (sS (sS (sS (sA (sA (sA (sA (sA (sA (sA (sA (sA s 11 f11) 12 f12) 13 f13) 14 f14) 15 f15) 16 f16) 17 f17) 18 f18) 19 f19) 0 0) 25 k25) 33 k33) 34 k34) (by simp only [sA_A, sS_S, sA_S, sA_lt, sS_lt, Nat.reduceLT, id_eq] <;> rfl) ?_
  refine JW.aload_n dX3_next_2_5 rfl ?_
  refine JW.iload_n dX3_next_2_6 rfl ?_
  refine JW.i2l dX3_next_2_7 ?_
  obtain ⟨o_1, K⟩ := K
  refine JW.mcall (As := [vL x1]) dX3_next_2_8 vX3_isNumber rfl q1806 (ctX3_isNumber b (sS (sS (sS (sS (sA (sA (sA (sA (sA (sA (sA (sA (sA s 11 f11) 12 f12) 13 f13) 14 f14) 15 f15) 16 f16) 17 f17) 18 f18) 19 f19) 0 0) 25 k25) 33 k33) 34 k34) x1 o_1) (Nat.le_of_ble_eq_true rfl) rfl (Nat.le_of_ble_eq_true rfl) ?_
  rintro _ _ ⟨rfl, eq_2⟩
  refine JW.steq (s2 := sS (sS (sS (sS (sA (sA (sA (sA (sA (sA (sA (sA (sA s 11 f11) 12 f12) 13 f13) 14 f14) 15 f15) 16 f16) 17 f17) 18 f18) 19 f19) 0 0) 25 k25) 33 k33) 34 k34) eq_2 ?_
  refine JW.if_eq (tgt := 28) dX3_next_2_11 rfl (fun c_3 => ?_) (fun c_3 => ?_)
  · have K := K.1 c_3
    refine JW.bipush dX3_next_2_28 rfl ?_
    exact JW.ireturn dX3_next_2_30 rfl rfl ⟨_, rfl, K⟩
  · have K := K.2 c_3
    refine JW.aload_n dX3_next_2_14 rfl ?_
    refine JW.iload_n dX3_next_2_15 rfl ?_
    refine JW.aload_n dX3_next_2_16 rfl ?_
    refine JW.mget (v := vR 358) dX3_next_2_17 fX3_34 rfl ?_
    refine JW.iconst dX3_next_2_20 rfl ?_
    refine JW.mald 6 (x := (s.2 6 3)) dX3_next_2_21 (Nat.le_of_ble_eq_true rfl) rfl (by decide) (by decide) rfl ?_
    obtain ⟨o_4, K⟩ := K
    refine JW.mcall (As := [vI x1, vI (s.2 6 3)]) dX3_next_2_22 vX3_through0 rfl q1818 (ctX3_through0 b (sS (sS (sS (sS (sA (sA (sA (sA (sA (sA (sA (sA (sA s 11 f11) 12 f12) 13 f13) 14 f14) 15 f15) 16 f16) 17 f17) 18 f18) 19 f19) 0 0) 25 k25) 33 k33) 34 k34) x1 (s.2 6 3) o_4) (Nat.le_of_ble_eq_true rfl) rfl (Nat.le_of_ble_eq_true rfl) ?_
    rintro _ _ ⟨f_5, f_6, rfl, rfl⟩
    refine JW.steq (s2 := sS (sS (sS (sS (sA (sA (sA (sA (sA (sA (sA (sA (sA s 11 f_5) 12 f_6) 13 f13) 14 f14) 15 f15) 16 f16) 17 f17) 18 f18) 19 f19) 0 0) 25 ((thrS (s.2 6) (s.2 7) x1 ((s.2 6 3)).toNat).1)) 33 k33) 34 k34) (by simp only [sA_A, sS_S, sA_S, sA_lt, sS_lt, Nat.reduceLT, id_eq] <;> rfl) ?_
    replace K := K f_5 f_6
    refine JW.goto (tgt := 30) dX3_next_2_25 rfl ?_
    exact JW.ireturn dX3_next_2_30 rfl rfl ⟨_, rfl, K⟩
def QX3_next_2 (s : MS) (a1 : Int) : Option AV → MS → Prop := fun v s' => ∃ (f11 : Int → Int) (f12 : Int → Int) (f13 : Int → Int) (f14 : Int → Int) (f15 : Int → Int) (f16 : Int → Int) (f17 : Int → Int) (f18 : Int → Int) (f19 : Int → Int) (k25 : Int) (k33 : Int) (k34 : Int), v = some (vI (rNext (s.2 6) (s.2 7) a1)) ∧ s' = sS (sS (sS (sS (sA (sA (sA (sA (sA (sA (sA (sA (sA s 11 f11) 12 f12) 13 f13) 14 f14) 15 f15) 16 f16) 17 f17) 18 f18) 19 f19) 0 (0)) 25 k25) 33 k33) 34 k34
theorem vX3_next_2_1 (s : MS) (a1 : Int) (hp : tOK (s.2 6) ∧ aOK (s.2 6) (s.2 7)) : (tOK (s.2 6)) := by
  obtain ⟨ht, ha⟩ := hp
  have hN := tOK_N ht
  have hW := tOK_W ht
  (try unfold lex3)
  (try simp only [bI_0, bI_n, Classical.not_not] at *)
  (try simp (disch := omega) only [i32_id] at *)
  first | done | omega | ((repeat' (with_reducible apply And.intro)) <;> first | assumption | rfl | omega | (unfold rNext; rw [if_neg (by omega)]) | (unfold rNext; rw [if_pos (by omega)]; rfl) | grind [upI])
theorem vX3_next_2_2 (s : MS) (a1 : Int) (hp : tOK (s.2 6) ∧ aOK (s.2 6) (s.2 7)) (o_1 : (tOK (s.2 6))) (c_3 : (bI (0 ≤ a1 ∧ a1 < (s.2 6) 2)) = 0) : (-2) = (rNext (s.2 6) (s.2 7) a1) := by
  obtain ⟨ht, ha⟩ := hp
  have hN := tOK_N ht
  have hW := tOK_W ht
  (try unfold lex3)
  (try simp only [bI_0, bI_n, Classical.not_not] at *)
  (try simp (disch := omega) only [i32_id] at *)
  first | done | omega | ((repeat' (with_reducible apply And.intro)) <;> first | assumption | rfl | omega | (unfold rNext; rw [if_neg (by omega)]) | (unfold rNext; rw [if_pos (by omega)]; rfl) | grind [upI])
theorem vX3_next_2_3 (s : MS) (a1 : Int) (hp : tOK (s.2 6) ∧ aOK (s.2 6) (s.2 7)) (o_1 : (tOK (s.2 6))) (c_3 : ¬ (bI (0 ≤ a1 ∧ a1 < (s.2 6) 2)) = 0) : (tOK (s.2 6) ∧ aOK (s.2 6) (s.2 7) ∧ 0 ≤ a1 ∧ a1 < (s.2 6) 2 ∧ 0 ≤ (s.2 6 3) ∧ (s.2 6 3) ≤ (s.2 6) 3) := by
  obtain ⟨ht, ha⟩ := hp
  have hN := tOK_N ht
  have hW := tOK_W ht
  (try unfold lex3)
  (try simp only [bI_0, bI_n, Classical.not_not] at *)
  (try simp (disch := omega) only [i32_id] at *)
  first | done | omega | ((repeat' (with_reducible apply And.intro)) <;> first | assumption | rfl | omega | (unfold rNext; rw [if_neg (by omega)]) | (unfold rNext; rw [if_pos (by omega)]; rfl) | grind [upI])
theorem vX3_next_2_4 (s : MS) (a1 : Int) (hp : tOK (s.2 6) ∧ aOK (s.2 6) (s.2 7)) (o_1 : (tOK (s.2 6))) (c_3 : ¬ (bI (0 ≤ a1 ∧ a1 < (s.2 6) 2)) = 0) (o_4 : (tOK (s.2 6) ∧ aOK (s.2 6) (s.2 7) ∧ 0 ≤ a1 ∧ a1 < (s.2 6) 2 ∧ 0 ≤ (s.2 6 3) ∧ (s.2 6 3) ≤ (s.2 6) 3)) (f_5 : Int → Int) (f_6 : Int → Int) : ((thrS (s.2 6) (s.2 7) a1 ((s.2 6 3)).toNat).2) = (rNext (s.2 6) (s.2 7) a1) := by
  obtain ⟨ht, ha⟩ := hp
  have hN := tOK_N ht
  have hW := tOK_W ht
  (try unfold lex3)
  (try simp only [bI_0, bI_n, Classical.not_not] at *)
  (try simp (disch := omega) only [i32_id] at *)
  first | done | omega | ((repeat' (with_reducible apply And.intro)) <;> first | assumption | rfl | omega | (unfold rNext; rw [if_neg (by omega)]) | (unfold rNext; rw [if_pos (by omega)]; rfl) | grind [upI])
theorem ctX3_next_2 (b : AH) (s : MS) (a1 : Int) (hp : tOK (s.2 6) ∧ aOK (s.2 6) (s.2 7)) : MC mX3_next_2 8 b s [vI a1] (QX3_next_2 s a1) := by
  refine MC.of (by decide) rfl (Nat.le_of_ble_eq_true rfl) (JW.steq (s2 := sS (sS (sS (sS (sA (sA (sA (sA (sA (sA (sA (sA (sA s 11 (s.2 11)) 12 (s.2 12)) 13 (s.2 13)) 14 (s.2 14)) 15 (s.2 15)) 16 (s.2 16)) 17 (s.2 17)) 18 (s.2 18)) 19 (s.2 19)) 0 (s.1 0)) 25 (s.1 25)) 33 (s.1 33)) 34 (s.1 34)) (by simp only [sA_id, sS_id]) ?_)
  refine bX3_next_2_0 b s a1 (s.2 11) (s.2 12) (s.2 13) (s.2 14) (s.2 15) (s.2 16) (s.2 17) (s.2 18) (s.2 19) (s.1 0) (s.1 25) (s.1 33) (s.1 34) ?_
  have o_1 : (tOK (s.2 6)) := (vX3_next_2_1 s a1 hp)
  refine ⟨o_1, ?_⟩
  refine ⟨fun c_3 => ?_, fun c_3 => ?_⟩
  · exact ⟨(s.2 11), (s.2 12), (s.2 13), (s.2 14), (s.2 15), (s.2 16), (s.2 17), (s.2 18), (s.2 19), (s.1 25), (s.1 33), (s.1 34), (rI_c (vX3_next_2_2 s a1 hp o_1 c_3)), rfl⟩
  · have o_4 : (tOK (s.2 6) ∧ aOK (s.2 6) (s.2 7) ∧ 0 ≤ a1 ∧ a1 < (s.2 6) 2 ∧ 0 ≤ (s.2 6 3) ∧ (s.2 6 3) ≤ (s.2 6) 3) := (vX3_next_2_3 s a1 hp o_1 c_3)
    refine ⟨o_4, ?_⟩
    intro f_5 f_6
    exact ⟨f_5, f_6, (s.2 13), (s.2 14), (s.2 15), (s.2 16), (s.2 17), (s.2 18), (s.2 19), ((thrS (s.2 6) (s.2 7) a1 ((s.2 6 3)).toNat).1), (s.1 33), (s.1 34), (rI_c (vX3_next_2_4 s a1 hp o_1 c_3 o_4 f_5 f_6)), rfl⟩
def HX3_through_0 (Q : Option AV → MS → Prop) (b : AH) (s : MS) (x1 : Int) (x2 : Int) (f11 : Int → Int) (f12 : Int → Int) (f13 : Int → Int) (f14 : Int → Int) (f15 : Int → Int) (f16 : Int → Int) (f17 : Int → Int) (f18 : Int → Int) (f19 : Int → Int) (k0 : Int) (k25 : Int) (k33 : Int) (k34 : Int) : Prop := MW mX3_through 8 Q b 0 [(0, vR 351), (1, vI x1), (2, vI x2)] [] (sS (sS (sS (sS (sA (sA (sA (sA (sA (sA (sA (sA (sA s 11 f11) 12 f12) 13 f13) 14 f14) 15 f15) 16 f16) 17 f17) 18 f18) 19 f19) 0 k0) 25 k25) 33 k33) 34 k34)
theorem bX3_through_0 {Q : Option AV → MS → Prop} (b : AH) (s : MS) (x1 : Int) (x2 : Int) (f11 : Int → Int) (f12 : Int → Int) (f13 : Int → Int) (f14 : Int → Int) (f15 : Int → Int) (f16 : Int → Int) (f17 : Int → Int) (f18 : Int → Int) (f19 : Int → Int) (k0 : Int) (k25 : Int) (k33 : Int) (k34 : Int) (K : (tOK (s.2 6)) ∧ (((bI (0 ≤ x1 ∧ x1 < (s.2 6) 2)) = 0 → Q (some (vI (-2))) (sS (sS (sS (sS (sA (sA (sA (sA (sA (sA (sA (sA (sA s 11 f11) 12 f12) 13 f13) 14 f14) 15 f15) 16 f16) 17 f17) 18 f18) 19 f19) 0 0) 25 k25) 33 k33) 34 k34)) ∧ (¬ (bI (0 ≤ x1 ∧ x1 < (s.2 6) 2)) = 0 → ((bI ((0 : Int) ≤ x2 ∧ x2 ≤ (s.2 6 3))) = 0 → Q (some (vI (-2))) (sS (sS (sS (sS (sA (sA (sA (sA (sA (sA (sA (sA (sA s 11 f11) 12 f12) 13 f13) 14 f14) 15 f15) 16 f16) 17 f17) 18 f18) 19 f19) 0 0) 25 k25) 33 k33) 34 k34)) ∧ (¬ (bI ((0 : Int) ≤ x2 ∧ x2 ≤ (s.2 6 3))) = 0 → (tOK (s.2 6) ∧ aOK (s.2 6) (s.2 7) ∧ 0 ≤ x1 ∧ x1 < (s.2 6) 2 ∧ 0 ≤ x2 ∧ x2 ≤ (s.2 6) 3) ∧ ((∀ (f_7 : Int → Int) (f_8 : Int → Int), Q (some (vI ((thrS (s.2 6) (s.2 7) x1 (x2).toNat).2))) (sS (sS (sS (sS (sA (sA (sA (sA (sA (sA (sA (sA (sA s 11 f_7) 12 f_8) 13 f13) 14 f14) 15 f15) 16 f16) 17 f17) 18 f18) 19 f19) 0 0) 25 ((thrS (s.2 6) (s.2 7) x1 (x2).toNat).1)) 33 k33) 34 k34))))))) : HX3_through_0 Q b s x1 x2 f11 f12 f13 f14 f15 f16 f17 f18 f19 k0 k25 k33 k34 := by
  refine JW.aload_n dX3_through_0 rfl ?_
  refine JW.iconst dX3_through_1 rfl ?_
  refine JW.mputI dX3_through_2 (pX3_77 _) rfl ?_
  refine JW.steq (s2 := sS (sS (sS (sS (sA (sA (sA (sA (sA (sA (sA (sA (sA s 11 f11) 12 f12) 13 f13) 14 f14) 15 f15) 16 f16) 17 f17) 18 f18) 19 f19) 0 0) 25 k25) 33 k33) 34 k34) (by simp only [sA_A, sS_S, sA_S, sA_lt, sS_lt, Nat.reduceLT, id_eq] <;> rfl) ?_
  refine JW.aload_n dX3_through_5 rfl ?_
  refine JW.iload_n dX3_through_6 rfl ?_
  refine JW.i2l dX3_through_7 ?_
  obtain ⟨o_1, K⟩ := K
  refine JW.mcall (As := [vL x1]) dX3_through_8 vX3_isNumber rfl q1806 (ctX3_isNumber b (sS (sS (sS (sS (sA (sA (sA (sA (sA (sA (sA (sA (sA s 11 f11) 12 f12) 13 f13) 14 f14) 15 f15) 16 f16) 17 f17) 18 f18) 19 f19) 0 0) 25 k25) 33 k33) 34 k34) x1 o_1) (Nat.le_of_ble_eq_true rfl) rfl (Nat.le_of_ble_eq_true rfl) ?_
  rintro _ _ ⟨rfl, eq_2⟩
  refine JW.steq (s2 := sS (sS (sS (sS (sA (sA (sA (sA (sA (sA (sA (sA (sA s 11 f11) 12 f12) 13 f13) 14 f14) 15 f15) 16 f16) 17 f17) 18 f18) 19 f19) 0 0) 25 k25) 33 k33) 34 k34) eq_2 ?_
  refine JW.if_eq (tgt := 39) dX3_through_11 rfl (fun c_3 => ?_) (fun c_3 => ?_)
  · have K := K.1 c_3
    refine JW.bipush dX3_through_39 rfl ?_
    exact JW.ireturn dX3_through_41 rfl rfl ⟨_, rfl, K⟩
  · have K := K.2 c_3
    refine JW.iload_n dX3_through_14 rfl ?_
    refine JW.i2l dX3_through_15 ?_
    refine JW.lconst (x := 0) dX3_through_16 rfl ?_
    refine JW.aload_n dX3_through_17 rfl ?_
    refine JW.mget (v := vR 358) dX3_through_18 fX3_34 rfl ?_
    refine JW.iconst dX3_through_21 rfl ?_
    refine JW.mald 6 (x := (s.2 6 3)) dX3_through_22 (Nat.le_of_ble_eq_true rfl) rfl (by decide) (by decide) rfl ?_
    refine JW.i2l dX3_through_23 ?_
    refine JW.mcallS (As := [vL x2, vL 0, vL (s.2 6 3)]) dX3_through_24 vX3_in q1632 (ctX3_in b (sS (sS (sS (sS (sA (sA (sA (sA (sA (sA (sA (sA (sA s 11 f11) 12 f12) 13 f13) 14 f14) 15 f15) 16 f16) 17 f17) 18 f18) 19 f19) 0 0) 25 k25) 33 k33) 34 k34) x2 0 (s.2 6 3)) (Nat.le_of_ble_eq_true rfl) rfl (Nat.le_of_ble_eq_true rfl) ?_
    rintro _ _ ⟨rfl, eq_4⟩
    refine JW.steq (s2 := sS (sS (sS (sS (sA (sA (sA (sA (sA (sA (sA (sA (sA s 11 f11) 12 f12) 13 f13) 14 f14) 15 f15) 16 f16) 17 f17) 18 f18) 19 f19) 0 0) 25 k25) 33 k33) 34 k34) eq_4 ?_
    refine JW.if_eq (tgt := 39) dX3_through_27 rfl (fun c_5 => ?_) (fun c_5 => ?_)
    · have K := K.1 c_5
      refine JW.bipush dX3_through_39 rfl ?_
      exact JW.ireturn dX3_through_41 rfl rfl ⟨_, rfl, K⟩
    · have K := K.2 c_5
      refine JW.aload_n dX3_through_30 rfl ?_
      refine JW.iload_n dX3_through_31 rfl ?_
      refine JW.iload_n dX3_through_32 rfl ?_
      obtain ⟨o_6, K⟩ := K
      refine JW.mcall (As := [vI x1, vI x2]) dX3_through_33 vX3_through0 rfl q1818 (ctX3_through0 b (sS (sS (sS (sS (sA (sA (sA (sA (sA (sA (sA (sA (sA s 11 f11) 12 f12) 13 f13) 14 f14) 15 f15) 16 f16) 17 f17) 18 f18) 19 f19) 0 0) 25 k25) 33 k33) 34 k34) x1 x2 o_6) (Nat.le_of_ble_eq_true rfl) rfl (Nat.le_of_ble_eq_true rfl) ?_
      rintro _ _ ⟨f_7, f_8, rfl, rfl⟩
      refine JW.steq (s2 := sS (sS (sS (sS (sA (sA (sA (sA (sA (sA (sA (sA (sA s 11 f_7) 12 f_8) 13 f13) 14 f14) 15 f15) 16 f16) 17 f17) 18 f18) 19 f19) 0 0) 25 ((thrS (s.2 6) (s.2 7) x1 (x2).toNat).1)) 33 k33) 34 k34) (by simp only [sA_A, sS_S, sA_S, sA_lt, sS_lt, Nat.reduceLT, id_eq] <;> rfl) ?_
      replace K := K f_7 f_8
      refine JW.goto (tgt := 41) dX3_through_36 rfl ?_
      exact JW.ireturn dX3_through_41 rfl rfl ⟨_, rfl, K⟩
def QX3_through (s : MS) (a1 : Int) (a2 : Int) : Option AV → MS → Prop := fun v s' => ∃ (f11 : Int → Int) (f12 : Int → Int) (f13 : Int → Int) (f14 : Int → Int) (f15 : Int → Int) (f16 : Int → Int) (f17 : Int → Int) (f18 : Int → Int) (f19 : Int → Int) (k25 : Int) (k33 : Int) (k34 : Int), v = some (vI (rThrough (s.2 6) (s.2 7) a1 a2)) ∧ s' = sS (sS (sS (sS (sA (sA (sA (sA (sA (sA (sA (sA (sA s 11 f11) 12 f12) 13 f13) 14 f14) 15 f15) 16 f16) 17 f17) 18 f18) 19 f19) 0 (0)) 25 k25) 33 k33) 34 k34
theorem vX3_through_1 (s : MS) (a1 : Int) (a2 : Int) (hp : tOK (s.2 6) ∧ aOK (s.2 6) (s.2 7)) : (tOK (s.2 6)) := by
  obtain ⟨ht, ha⟩ := hp
  have hN := tOK_N ht
  have hW := tOK_W ht
  (try unfold lex3)
  (try simp only [bI_0, bI_n, Classical.not_not] at *)
  (try simp (disch := omega) only [i32_id] at *)
  first | done | omega | ((repeat' (with_reducible apply And.intro)) <;> first | assumption | rfl | omega | (unfold rThrough; rw [if_neg (by omega)]) | (unfold rThrough; rw [if_pos (by omega)]) | grind [upI])
theorem vX3_through_2 (s : MS) (a1 : Int) (a2 : Int) (hp : tOK (s.2 6) ∧ aOK (s.2 6) (s.2 7)) (o_1 : (tOK (s.2 6))) (c_3 : (bI (0 ≤ a1 ∧ a1 < (s.2 6) 2)) = 0) : (-2) = (rThrough (s.2 6) (s.2 7) a1 a2) := by
  obtain ⟨ht, ha⟩ := hp
  have hN := tOK_N ht
  have hW := tOK_W ht
  (try unfold lex3)
  (try simp only [bI_0, bI_n, Classical.not_not] at *)
  (try simp (disch := omega) only [i32_id] at *)
  first | done | omega | ((repeat' (with_reducible apply And.intro)) <;> first | assumption | rfl | omega | (unfold rThrough; rw [if_neg (by omega)]) | (unfold rThrough; rw [if_pos (by omega)]) | grind [upI])
theorem vX3_through_3 (s : MS) (a1 : Int) (a2 : Int) (hp : tOK (s.2 6) ∧ aOK (s.2 6) (s.2 7)) (o_1 : (tOK (s.2 6))) (c_3 : ¬ (bI (0 ≤ a1 ∧ a1 < (s.2 6) 2)) = 0) (c_5 : (bI ((0 : Int) ≤ a2 ∧ a2 ≤ (s.2 6 3))) = 0) : (-2) = (rThrough (s.2 6) (s.2 7) a1 a2) := by
  obtain ⟨ht, ha⟩ := hp
  have hN := tOK_N ht
  have hW := tOK_W ht
  (try unfold lex3)
  (try simp only [bI_0, bI_n, Classical.not_not] at *)
  (try simp (disch := omega) only [i32_id] at *)
  first | done | omega | ((repeat' (with_reducible apply And.intro)) <;> first | assumption | rfl | omega | (unfold rThrough; rw [if_neg (by omega)]) | (unfold rThrough; rw [if_pos (by omega)]) | grind [upI])
theorem vX3_through_4 (s : MS) (a1 : Int) (a2 : Int) (hp : tOK (s.2 6) ∧ aOK (s.2 6) (s.2 7)) (o_1 : (tOK (s.2 6))) (c_3 : ¬ (bI (0 ≤ a1 ∧ a1 < (s.2 6) 2)) = 0) (c_5 : ¬ (bI ((0 : Int) ≤ a2 ∧ a2 ≤ (s.2 6 3))) = 0) : (tOK (s.2 6) ∧ aOK (s.2 6) (s.2 7) ∧ 0 ≤ a1 ∧ a1 < (s.2 6) 2 ∧ 0 ≤ a2 ∧ a2 ≤ (s.2 6) 3) := by
  obtain ⟨ht, ha⟩ := hp
  have hN := tOK_N ht
  have hW := tOK_W ht
  (try unfold lex3)
  (try simp only [bI_0, bI_n, Classical.not_not] at *)
  (try simp (disch := omega) only [i32_id] at *)
  first | done | omega | ((repeat' (with_reducible apply And.intro)) <;> first | assumption | rfl | omega | (unfold rThrough; rw [if_neg (by omega)]) | (unfold rThrough; rw [if_pos (by omega)]) | grind [upI])
theorem vX3_through_5 (s : MS) (a1 : Int) (a2 : Int) (hp : tOK (s.2 6) ∧ aOK (s.2 6) (s.2 7)) (o_1 : (tOK (s.2 6))) (c_3 : ¬ (bI (0 ≤ a1 ∧ a1 < (s.2 6) 2)) = 0) (c_5 : ¬ (bI ((0 : Int) ≤ a2 ∧ a2 ≤ (s.2 6 3))) = 0) (o_6 : (tOK (s.2 6) ∧ aOK (s.2 6) (s.2 7) ∧ 0 ≤ a1 ∧ a1 < (s.2 6) 2 ∧ 0 ≤ a2 ∧ a2 ≤ (s.2 6) 3)) (f_7 : Int → Int) (f_8 : Int → Int) : ((thrS (s.2 6) (s.2 7) a1 (a2).toNat).2) = (rThrough (s.2 6) (s.2 7) a1 a2) := by
  obtain ⟨ht, ha⟩ := hp
  have hN := tOK_N ht
  have hW := tOK_W ht
  (try unfold lex3)
  (try simp only [bI_0, bI_n, Classical.not_not] at *)
  (try simp (disch := omega) only [i32_id] at *)
  first | done | omega | ((repeat' (with_reducible apply And.intro)) <;> first | assumption | rfl | omega | (unfold rThrough; rw [if_neg (by omega)]) | (unfold rThrough; rw [if_pos (by omega)]) | grind [upI])
theorem ctX3_through (b : AH) (s : MS) (a1 : Int) (a2 : Int) (hp : tOK (s.2 6) ∧ aOK (s.2 6) (s.2 7)) : MC mX3_through 8 b s [vI a1, vI a2] (QX3_through s a1 a2) := by
  refine MC.of (by decide) rfl (Nat.le_of_ble_eq_true rfl) (JW.steq (s2 := sS (sS (sS (sS (sA (sA (sA (sA (sA (sA (sA (sA (sA s 11 (s.2 11)) 12 (s.2 12)) 13 (s.2 13)) 14 (s.2 14)) 15 (s.2 15)) 16 (s.2 16)) 17 (s.2 17)) 18 (s.2 18)) 19 (s.2 19)) 0 (s.1 0)) 25 (s.1 25)) 33 (s.1 33)) 34 (s.1 34)) (by simp only [sA_id, sS_id]) ?_)
  refine bX3_through_0 b s a1 a2 (s.2 11) (s.2 12) (s.2 13) (s.2 14) (s.2 15) (s.2 16) (s.2 17) (s.2 18) (s.2 19) (s.1 0) (s.1 25) (s.1 33) (s.1 34) ?_
  have o_1 : (tOK (s.2 6)) := (vX3_through_1 s a1 a2 hp)
  refine ⟨o_1, ?_⟩
  refine ⟨fun c_3 => ?_, fun c_3 => ?_⟩
  · exact ⟨(s.2 11), (s.2 12), (s.2 13), (s.2 14), (s.2 15), (s.2 16), (s.2 17), (s.2 18), (s.2 19), (s.1 25), (s.1 33), (s.1 34), (rI_c (vX3_through_2 s a1 a2 hp o_1 c_3)), rfl⟩
  · refine ⟨fun c_5 => ?_, fun c_5 => ?_⟩
    · exact ⟨(s.2 11), (s.2 12), (s.2 13), (s.2 14), (s.2 15), (s.2 16), (s.2 17), (s.2 18), (s.2 19), (s.1 25), (s.1 33), (s.1 34), (rI_c (vX3_through_3 s a1 a2 hp o_1 c_3 c_5)), rfl⟩
    · have o_6 : (tOK (s.2 6) ∧ aOK (s.2 6) (s.2 7) ∧ 0 ≤ a1 ∧ a1 < (s.2 6) 2 ∧ 0 ≤ a2 ∧ a2 ≤ (s.2 6) 3) := (vX3_through_4 s a1 a2 hp o_1 c_3 c_5)
      refine ⟨o_6, ?_⟩
      intro f_7 f_8
      exact ⟨f_7, f_8, (s.2 13), (s.2 14), (s.2 15), (s.2 16), (s.2 17), (s.2 18), (s.2 19), ((thrS (s.2 6) (s.2 7) a1 (a2).toNat).1), (s.1 33), (s.1 34), (rI_c (vX3_through_5 s a1 a2 hp o_1 c_3 c_5 o_6 f_7 f_8)), rfl⟩
def HX3_size_0 (Q : Option AV → MS → Prop) (b : AH) (s : MS) (k0 : Int) : Prop := MW mX3_size 2 Q b 0 [(0, vR 351)] [] (sS s 0 k0)
theorem bX3_size_0 {Q : Option AV → MS → Prop} (b : AH) (s : MS) (k0 : Int) (K : ((bI (0 < (s.2 5) 0)) = 0 → Q (some (vI (-2))) (sS s 0 0)) ∧ (¬ (bI (0 < (s.2 5) 0)) = 0 → Q (some (vI (s.2 6 2))) (sS s 0 0))) : HX3_size_0 Q b s k0 := by
  refine JW.aload_n dX3_size_0 rfl ?_
  refine JW.iconst dX3_size_1 rfl ?_
  refine JW.mputI dX3_size_2 (pX3_77 _) rfl ?_
  refine JW.steq (s2 := sS s 0 0) (by simp only [sA_A, sS_S, sA_S, sA_lt, sS_lt, Nat.reduceLT, id_eq] <;> rfl) ?_
  refine JW.aload_n dX3_size_5 rfl ?_
  refine JW.mcall (As := []) dX3_size_6 vX3_isTable rfl q1798 (ctX3_isTable b (sS s 0 0)) (Nat.le_of_ble_eq_true rfl) rfl (Nat.le_of_ble_eq_true rfl) ?_
  rintro _ _ ⟨rfl, eq_1⟩
  refine JW.steq (s2 := sS s 0 0) eq_1 ?_
  refine JW.if_eq (tgt := 21) dX3_size_9 rfl (fun c_2 => ?_) (fun c_2 => ?_)
  · have K := K.1 c_2
    refine JW.bipush dX3_size_21 rfl ?_
    exact JW.ireturn dX3_size_23 rfl rfl ⟨_, rfl, K⟩
  · have K := K.2 c_2
    refine JW.aload_n dX3_size_12 rfl ?_
    refine JW.mget (v := vR 358) dX3_size_13 fX3_34 rfl ?_
    refine JW.iconst dX3_size_16 rfl ?_
    refine JW.mald 6 (x := (s.2 6 2)) dX3_size_17 (Nat.le_of_ble_eq_true rfl) rfl (by decide) (by decide) rfl ?_
    refine JW.goto (tgt := 23) dX3_size_18 rfl ?_
    exact JW.ireturn dX3_size_23 rfl rfl ⟨_, rfl, K⟩
def QX3_size (s : MS) : Option AV → MS → Prop := fun v s' => v = some (vI (rSize ((s.2 5) 0) (s.2 6))) ∧ s' = sS s 0 (0)
theorem vX3_size_1 (s : MS) (c_2 : (bI (0 < (s.2 5) 0)) = 0) : (-2) = (rSize ((s.2 5) 0) (s.2 6)) := by
  (try unfold lex3)
  (try simp only [bI_0, bI_n, Classical.not_not] at *)
  (try simp (disch := omega) only [i32_id] at *)
  first | done | omega | ((repeat' (with_reducible apply And.intro)) <;> first | assumption | rfl | omega | (unfold rSize; rw [if_neg (by omega)]) | (unfold rSize; rw [if_pos (by omega)]) | grind [upI])
theorem vX3_size_2 (s : MS) (c_2 : ¬ (bI (0 < (s.2 5) 0)) = 0) : (s.2 6 2) = (rSize ((s.2 5) 0) (s.2 6)) := by
  (try unfold lex3)
  (try simp only [bI_0, bI_n, Classical.not_not] at *)
  (try simp (disch := omega) only [i32_id] at *)
  first | done | omega | ((repeat' (with_reducible apply And.intro)) <;> first | assumption | rfl | omega | (unfold rSize; rw [if_neg (by omega)]) | (unfold rSize; rw [if_pos (by omega)]) | grind [upI])
theorem ctX3_size (b : AH) (s : MS) : MC mX3_size 2 b s [] (QX3_size s) := by
  refine MC.of (by decide) rfl (Nat.le_of_ble_eq_true rfl) (JW.steq (s2 := sS s 0 (s.1 0)) (by simp only [sA_id, sS_id]) ?_)
  refine bX3_size_0 b s (s.1 0) ?_
  refine ⟨fun c_2 => ?_, fun c_2 => ?_⟩
  · exact ⟨(rI_c (vX3_size_1 s c_2)), rfl⟩
  · exact ⟨(rI_c (vX3_size_2 s c_2)), rfl⟩
def HX3_after_0 (Q : Option AV → MS → Prop) (b : AH) (s : MS) (x1 : Int) (x2 : Int) (f11 : Int → Int) (f12 : Int → Int) (f13 : Int → Int) (f14 : Int → Int) (f15 : Int → Int) (f16 : Int → Int) (f17 : Int → Int) (f18 : Int → Int) (f19 : Int → Int) (k0 : Int) (k25 : Int) (k33 : Int) (k34 : Int) : Prop := MW mX3_after 9 Q b 0 [(0, vR 351), (1, vI x1), (2, vI x2)] [] (sS (sS (sS (sS (sA (sA (sA (sA (sA (sA (sA (sA (sA s 11 f11) 12 f12) 13 f13) 14 f14) 15 f15) 16 f16) 17 f17) 18 f18) 19 f19) 0 k0) 25 k25) 33 k33) 34 k34)
theorem bX3_after_0 {Q : Option AV → MS → Prop} (b : AH) (s : MS) (x1 : Int) (x2 : Int) (f11 : Int → Int) (f12 : Int → Int) (f13 : Int → Int) (f14 : Int → Int) (f15 : Int → Int) (f16 : Int → Int) (f17 : Int → Int) (f18 : Int → Int) (f19 : Int → Int) (k0 : Int) (k25 : Int) (k33 : Int) (k34 : Int) (K : (tOK (s.2 6)) ∧ (((bI (0 ≤ x1 ∧ x1 < (s.2 6) 2)) = 0 → Q (some (vI (-2))) (sS (sS (sS (sS (sA (sA (sA (sA (sA (sA (sA (sA (sA s 11 f11) 12 f12) 13 f13) 14 f14) 15 f15) 16 f16) 17 f17) 18 f18) 19 f19) 0 0) 25 k25) 33 k33) 34 k34)) ∧ (¬ (bI (0 ≤ x1 ∧ x1 < (s.2 6) 2)) = 0 → (¬ (bI ((0 : Int) ≤ x2 ∧ x2 ≤ (1000000000 : Int))) = 0 → (tOK (s.2 6) ∧ aOK (s.2 6) (s.2 7)) ∧ ((∀ (f_7 : Int → Int) (f_8 : Int → Int) (f_9 : Int → Int) (f_10 : Int → Int) (f_11 : Int → Int) (f_12 : Int → Int) (f_13 : Int → Int) (k_14 : Int), (GO (s.2 6) (s.2 7) f_9 f_10 f_11 f_12) → (0 ≤ x1 ∧ x1 < 10000) ∧ (((f_10 x1) < x2 → (rng f_9 ((s.2 6) 2) ∧ (s.2 6) 2 ≤ 10000 ∧ 0 ≤ x1 ∧ x1 < (s.2 6) 2 ∧ 0 ≤ (f_10 x1) ∧ (f_10 x1) ≤ 1000000000) ∧ ((0 ≤ (f_11 x1) ∧ (f_11 x1) < 10000) ∧ ((f_12 (f_11 x1)) ≠ 0 ∧ ((rng f_9 ((s.2 6) 2) ∧ (s.2 6) 2 ≤ 10000 ∧ 0 ≤ (it f_9 x1 ((f_10 x1)).toNat) ∧ (it f_9 x1 ((f_10 x1)).toNat) < (s.2 6) 2 ∧ 0 ≤ (i32 (Int.tmod (i32 (x2 - (f_10 x1))) (f_12 (f_11 x1)))) ∧ (i32 (Int.tmod (i32 (x2 - (f_10 x1))) (f_12 (f_11 x1)))) ≤ 1000000000) ∧ (Q (some (vI (it f_9 (it f_9 x1 ((f_10 x1)).toNat) ((i32 (Int.tmod (i32 (x2 - (f_10 x1))) (f_12 (f_11 x1))))).toNat))) (sS (sS (sS (sS (sA (sA (sA (sA (sA (sA (sA (sA (sA s 11 f_7) 12 f_8) 13 f_9) 14 f_10) 15 f_11) 16 f_12) 17 f_13) 18 f18) 19 f19) 0 0) 25 k_14) 33 k33) 34 k34)))))) ∧ (¬ (f_10 x1) < x2 → (rng f_9 ((s.2 6) 2) ∧ (s.2 6) 2 ≤ 10000 ∧ 0 ≤ x1 ∧ x1 < (s.2 6) 2 ∧ 0 ≤ x2 ∧ x2 ≤ 1000000000) ∧ (Q (some (vI (it f_9 x1 (x2).toNat))) (sS (sS (sS (sS (sA (sA (sA (sA (sA (sA (sA (sA (sA s 11 f_7) 12 f_8) 13 f_9) 14 f_10) 15 f_11) 16 f_12) 17 f_13) 18 f18) 19 f19) 0 0) 25 k_14) 33 k33) 34 k34))))))) ∧ ((bI ((0 : Int) ≤ x2 ∧ x2 ≤ (1000000000 : Int))) = 0 → Q (some (vI (-2))) (sS (sS (sS (sS (sA (sA (sA (sA (sA (sA (sA (sA (sA s 11 f11) 12 f12) 13 f13) 14 f14) 15 f15) 16 f16) 17 f17) 18 f18) 19 f19) 0 0) 25 k25) 33 k33) 34 k34))))) : HX3_after_0 Q b s x1 x2 f11 f12 f13 f14 f15 f16 f17 f18 f19 k0 k25 k33 k34 := by
  refine JW.aload_n dX3_after_0 rfl ?_
  refine JW.iconst dX3_after_1 rfl ?_
  refine JW.mputI dX3_after_2 (pX3_77 _) rfl ?_
  refine JW.steq (s2 := sS (sS (sS (sS (sA (sA (sA (sA (sA (sA (sA (sA (sA s 11 f11) 12 f12) 13 f13) 14 f14) 15 f15) 16 f16) 17 f17) 18 f18) 19 f19) 0 0) 25 k25) 33 k33) 34 k34) (by simp only [sA_A, sS_S, sA_S, sA_lt, sS_lt, Nat.reduceLT, id_eq] <;> rfl) ?_
  refine JW.aload_n dX3_after_5 rfl ?_
  refine JW.iload_n dX3_after_6 rfl ?_
  refine JW.i2l dX3_after_7 ?_
  obtain ⟨o_1, K⟩ := K
  refine JW.mcall (As := [vL x1]) dX3_after_8 vX3_isNumber rfl q1806 (ctX3_isNumber b (sS (sS (sS (sS (sA (sA (sA (sA (sA (sA (sA (sA (sA s 11 f11) 12 f12) 13 f13) 14 f14) 15 f15) 16 f16) 17 f17) 18 f18) 19 f19) 0 0) 25 k25) 33 k33) 34 k34) x1 o_1) (Nat.le_of_ble_eq_true rfl) rfl (Nat.le_of_ble_eq_true rfl) ?_
  rintro _ _ ⟨rfl, eq_2⟩
  refine JW.steq (s2 := sS (sS (sS (sS (sA (sA (sA (sA (sA (sA (sA (sA (sA s 11 f11) 12 f12) 13 f13) 14 f14) 15 f15) 16 f16) 17 f17) 18 f18) 19 f19) 0 0) 25 k25) 33 k33) 34 k34) eq_2 ?_
  refine JW.if_eq (tgt := 26) dX3_after_11 rfl (fun c_3 => ?_) (fun c_3 => ?_)
  · have K := K.1 c_3
    refine JW.bipush dX3_after_26 rfl ?_
    exact JW.ireturn dX3_after_28 rfl rfl ⟨_, rfl, K⟩
  · have K := K.2 c_3
    refine JW.iload_n dX3_after_14 rfl ?_
    refine JW.i2l dX3_after_15 ?_
    refine JW.lconst (x := 0) dX3_after_16 rfl ?_
    refine JW.ldc2 (x := 1000000000) dX3_after_17 q1862 rfl ?_
    refine JW.mcallS (As := [vL x2, vL 0, vL 1000000000]) dX3_after_20 vX3_in q1632 (ctX3_in b (sS (sS (sS (sS (sA (sA (sA (sA (sA (sA (sA (sA (sA s 11 f11) 12 f12) 13 f13) 14 f14) 15 f15) 16 f16) 17 f17) 18 f18) 19 f19) 0 0) 25 k25) 33 k33) 34 k34) x2 0 1000000000) (Nat.le_of_ble_eq_true rfl) rfl (Nat.le_of_ble_eq_true rfl) ?_
    rintro _ _ ⟨rfl, eq_4⟩
    refine JW.steq (s2 := sS (sS (sS (sS (sA (sA (sA (sA (sA (sA (sA (sA (sA s 11 f11) 12 f12) 13 f13) 14 f14) 15 f15) 16 f16) 17 f17) 18 f18) 19 f19) 0 0) 25 k25) 33 k33) 34 k34) eq_4 ?_
    refine JW.if_ne (tgt := 29) dX3_after_23 rfl (fun c_5 => ?_) (fun c_5 => ?_)
    · have K := K.1 c_5
      refine JW.aload_n dX3_after_29 rfl ?_
      obtain ⟨o_6, K⟩ := K
      refine JW.mcall (As := []) dX3_after_30 vX3_all rfl q1863 (ctX3_all b (sS (sS (sS (sS (sA (sA (sA (sA (sA (sA (sA (sA (sA s 11 f11) 12 f12) 13 f13) 14 f14) 15 f15) 16 f16) 17 f17) 18 f18) 19 f19) 0 0) 25 k25) 33 k33) 34 k34) o_6) (Nat.le_of_ble_eq_true rfl) rfl (Nat.le_of_ble_eq_true rfl) ?_
      rintro _ _ ⟨f_7, f_8, f_9, f_10, f_11, f_12, f_13, k_14, rfl, rfl, q_15⟩
      refine JW.steq (s2 := sS (sS (sS (sS (sA (sA (sA (sA (sA (sA (sA (sA (sA s 11 f_7) 12 f_8) 13 f_9) 14 f_10) 15 f_11) 16 f_12) 17 f_13) 18 f18) 19 f19) 0 0) 25 k_14) 33 k33) 34 k34) (by simp only [sA_A, sS_S, sA_S, sA_lt, sS_lt, Nat.reduceLT, id_eq] <;> rfl) ?_
      replace K := K f_7 f_8 f_9 f_10 f_11 f_12 f_13 k_14 q_15
      refine JW.iload_n dX3_after_33 rfl ?_
      refine JW.aload_n dX3_after_34 rfl ?_
      refine JW.mget (v := vR 366) dX3_after_35 fX3_59 rfl ?_
      refine JW.iload_n dX3_after_38 rfl ?_
      obtain ⟨o_16, K⟩ := K
      refine JW.mald 14 (x := (f_10 x1)) dX3_after_39 (Nat.le_of_ble_eq_true rfl) rfl o_16.1 o_16.2 rfl ?_
      refine JW.icmp_gt (tgt := 50) dX3_after_40 rfl (fun c_17 => ?_) (fun c_17 => ?_)
      · have K := K.1 c_17
        refine JW.aload_n dX3_after_50 rfl ?_
        refine JW.aload_n dX3_after_51 rfl ?_
        refine JW.iload_n dX3_after_52 rfl ?_
        refine JW.aload_n dX3_after_53 rfl ?_
        refine JW.mget (v := vR 366) dX3_after_54 fX3_59 rfl ?_
        refine JW.iload_n dX3_after_57 rfl ?_
        refine JW.mald 14 (x := (f_10 x1)) dX3_after_58 (Nat.le_of_ble_eq_true rfl) rfl o_16.1 o_16.2 rfl ?_
        obtain ⟨o_18, K⟩ := K
        refine JW.mcall (As := [vI x1, vI (f_10 x1)]) dX3_after_59 vX3_behind rfl q1883 (ctX3_behind b (sS (sS (sS (sS (sA (sA (sA (sA (sA (sA (sA (sA (sA s 11 f_7) 12 f_8) 13 f_9) 14 f_10) 15 f_11) 16 f_12) 17 f_13) 18 f18) 19 f19) 0 0) 25 k_14) 33 k33) 34 k34) x1 (f_10 x1) o_18) (Nat.le_of_ble_eq_true rfl) rfl (Nat.le_of_ble_eq_true rfl) ?_
        rintro _ _ ⟨rfl, eq_19⟩
        refine JW.steq (s2 := sS (sS (sS (sS (sA (sA (sA (sA (sA (sA (sA (sA (sA s 11 f_7) 12 f_8) 13 f_9) 14 f_10) 15 f_11) 16 f_12) 17 f_13) 18 f18) 19 f19) 0 0) 25 k_14) 33 k33) 34 k34) eq_19 ?_
        refine JW.iload_n dX3_after_62 rfl ?_
        refine JW.aload_n dX3_after_63 rfl ?_
        refine JW.mget (v := vR 366) dX3_after_64 fX3_59 rfl ?_
        refine JW.iload_n dX3_after_67 rfl ?_
        refine JW.mald 14 (x := (f_10 x1)) dX3_after_68 (Nat.le_of_ble_eq_true rfl) rfl o_16.1 o_16.2 rfl ?_
        refine JW.isub dX3_after_69 ?_
        refine JW.aload_n dX3_after_70 rfl ?_
        refine JW.mget (v := vR 368) dX3_after_71 fX3_65 rfl ?_
        refine JW.aload_n dX3_after_74 rfl ?_
        refine JW.mget (v := vR 367) dX3_after_75 fX3_62 rfl ?_
        refine JW.iload_n dX3_after_78 rfl ?_
        refine JW.mald 15 (x := (f_11 x1)) dX3_after_79 (Nat.le_of_ble_eq_true rfl) rfl o_16.1 o_16.2 rfl ?_
        obtain ⟨o_20, K⟩ := K
        refine JW.mald 16 (x := (f_12 (f_11 x1))) dX3_after_80 (Nat.le_of_ble_eq_true rfl) rfl o_20.1 o_20.2 rfl ?_
        obtain ⟨o_21, K⟩ := K
        refine JW.irem dX3_after_81 o_21 ?_
        obtain ⟨o_22, K⟩ := K
        refine JW.mcall (As := [vI (it f_9 x1 ((f_10 x1)).toNat), vI (i32 (Int.tmod (i32 (x2 - (f_10 x1))) (f_12 (f_11 x1))))]) dX3_after_82 vX3_behind rfl q1883 (ctX3_behind b (sS (sS (sS (sS (sA (sA (sA (sA (sA (sA (sA (sA (sA s 11 f_7) 12 f_8) 13 f_9) 14 f_10) 15 f_11) 16 f_12) 17 f_13) 18 f18) 19 f19) 0 0) 25 k_14) 33 k33) 34 k34) (it f_9 x1 ((f_10 x1)).toNat) (i32 (Int.tmod (i32 (x2 - (f_10 x1))) (f_12 (f_11 x1)))) o_22) (Nat.le_of_ble_eq_true rfl) rfl (Nat.le_of_ble_eq_true rfl) ?_
        rintro _ _ ⟨rfl, eq_23⟩
        refine JW.steq (s2 := sS (sS (sS (sS (sA (sA (sA (sA (sA (sA (sA (sA (sA s 11 f_7) 12 f_8) 13 f_9) 14 f_10) 15 f_11) 16 f_12) 17 f_13) 18 f18) 19 f19) 0 0) 25 k_14) 33 k33) 34 k34) eq_23 ?_
        exact JW.ireturn dX3_after_85 rfl rfl ⟨_, rfl, K⟩
      · have K := K.2 c_17
        refine JW.aload_n dX3_after_43 rfl ?_
        refine JW.iload_n dX3_after_44 rfl ?_
        refine JW.iload_n dX3_after_45 rfl ?_
        obtain ⟨o_24, K⟩ := K
        refine JW.mcall (As := [vI x1, vI x2]) dX3_after_46 vX3_behind rfl q1883 (ctX3_behind b (sS (sS (sS (sS (sA (sA (sA (sA (sA (sA (sA (sA (sA s 11 f_7) 12 f_8) 13 f_9) 14 f_10) 15 f_11) 16 f_12) 17 f_13) 18 f18) 19 f19) 0 0) 25 k_14) 33 k33) 34 k34) x1 x2 o_24) (Nat.le_of_ble_eq_true rfl) rfl (Nat.le_of_ble_eq_true rfl) ?_
        rintro _ _ ⟨rfl, eq_25⟩
        refine JW.steq (s2 := sS (sS (sS (sS (sA (sA (sA (sA (sA (sA (sA (sA (sA s 11 f_7) 12 f_8) 13 f_9) 14 f_10) 15 f_11) 16 f_12) 17 f_13) 18 f18) 19 f19) 0 0) 25 k_14) 33 k33) 34 k34) eq_25 ?_
        exact JW.ireturn dX3_after_49 rfl rfl ⟨_, rfl, K⟩
    · have K := K.2 c_5
      refine JW.bipush dX3_after_26 rfl ?_
      exact JW.ireturn dX3_after_28 rfl rfl ⟨_, rfl, K⟩
def QX3_after (s : MS) (a1 : Int) (a2 : Int) : Option AV → MS → Prop := fun v s' => ∃ (f11 : Int → Int) (f12 : Int → Int) (f13 : Int → Int) (f14 : Int → Int) (f15 : Int → Int) (f16 : Int → Int) (f17 : Int → Int) (f18 : Int → Int) (f19 : Int → Int) (k25 : Int) (k33 : Int) (k34 : Int), v = some (vI (rAfter (s.2 6) (s.2 7) a1 a2)) ∧ s' = sS (sS (sS (sS (sA (sA (sA (sA (sA (sA (sA (sA (sA s 11 f11) 12 f12) 13 f13) 14 f14) 15 f15) 16 f16) 17 f17) 18 f18) 19 f19) 0 (0)) 25 k25) 33 k33) 34 k34
theorem vX3_after_1 (s : MS) (a1 : Int) (a2 : Int) (hp : tOK (s.2 6) ∧ aOK (s.2 6) (s.2 7)) : (tOK (s.2 6)) := by
  obtain ⟨ht, ha⟩ := hp
  have hN := tOK_N ht
  have hg := nx_rng (s.2 6) (s.2 7)
  (try simp only [bI_0, bI_n, Classical.not_not] at *)
  (try have hq := ‹GO (s.2 6) (s.2 7) _ _ _ _›)
  (try have hq := hI.2.1)
  (try have hx := GO_at hq (x := a1) (by omega) (by omega))
  (try unfold lex3)
  (try simp only [bI_0, bI_n, Classical.not_not] at *)
  (try simp (disch := omega) only [i32_id] at *)
  first | done | omega | ((repeat' (with_reducible apply And.intro)) <;> first | assumption | rfl | omega | (unfold rAfter; rw [if_neg (by omega)]) | (exact NXO_rng (GO_n hq)) | (rw [hx.2.1.1, hx.2.2.2.1]; omega) | (unfold rAfter; rw [if_pos (by omega), NXO_it (GO_n hq) (by omega) (by omega)]) | grind [upI])
theorem vX3_after_2 (s : MS) (a1 : Int) (a2 : Int) (hp : tOK (s.2 6) ∧ aOK (s.2 6) (s.2 7)) (o_1 : (tOK (s.2 6))) (c_3 : (bI (0 ≤ a1 ∧ a1 < (s.2 6) 2)) = 0) : (-2) = (rAfter (s.2 6) (s.2 7) a1 a2) := by
  obtain ⟨ht, ha⟩ := hp
  have hN := tOK_N ht
  have hg := nx_rng (s.2 6) (s.2 7)
  (try simp only [bI_0, bI_n, Classical.not_not] at *)
  (try have hq := ‹GO (s.2 6) (s.2 7) _ _ _ _›)
  (try have hq := hI.2.1)
  (try have hx := GO_at hq (x := a1) (by omega) (by omega))
  (try unfold lex3)
  (try simp only [bI_0, bI_n, Classical.not_not] at *)
  (try simp (disch := omega) only [i32_id] at *)
  first | done | omega | ((repeat' (with_reducible apply And.intro)) <;> first | assumption | rfl | omega | (unfold rAfter; rw [if_neg (by omega)]) | (exact NXO_rng (GO_n hq)) | (rw [hx.2.1.1, hx.2.2.2.1]; omega) | (unfold rAfter; rw [if_pos (by omega), NXO_it (GO_n hq) (by omega) (by omega)]) | grind [upI])
theorem vX3_after_3 (s : MS) (a1 : Int) (a2 : Int) (hp : tOK (s.2 6) ∧ aOK (s.2 6) (s.2 7)) (o_1 : (tOK (s.2 6))) (c_3 : ¬ (bI (0 ≤ a1 ∧ a1 < (s.2 6) 2)) = 0) (c_5 : ¬ (bI ((0 : Int) ≤ a2 ∧ a2 ≤ (1000000000 : Int))) = 0) : (tOK (s.2 6) ∧ aOK (s.2 6) (s.2 7)) := by
  obtain ⟨ht, ha⟩ := hp
  have hN := tOK_N ht
  have hg := nx_rng (s.2 6) (s.2 7)
  (try simp only [bI_0, bI_n, Classical.not_not] at *)
  (try have hq := ‹GO (s.2 6) (s.2 7) _ _ _ _›)
  (try have hq := hI.2.1)
  (try have hx := GO_at hq (x := a1) (by omega) (by omega))
  (try unfold lex3)
  (try simp only [bI_0, bI_n, Classical.not_not] at *)
  (try simp (disch := omega) only [i32_id] at *)
  first | done | omega | ((repeat' (with_reducible apply And.intro)) <;> first | assumption | rfl | omega | (unfold rAfter; rw [if_neg (by omega)]) | (exact NXO_rng (GO_n hq)) | (rw [hx.2.1.1, hx.2.2.2.1]; omega) | (unfold rAfter; rw [if_pos (by omega), NXO_it (GO_n hq) (by omega) (by omega)]) | grind [upI])
theorem vX3_after_4 (s : MS) (a1 : Int) (a2 : Int) (hp : tOK (s.2 6) ∧ aOK (s.2 6) (s.2 7)) (o_1 : (tOK (s.2 6))) (c_3 : ¬ (bI (0 ≤ a1 ∧ a1 < (s.2 6) 2)) = 0) (c_5 : ¬ (bI ((0 : Int) ≤ a2 ∧ a2 ≤ (1000000000 : Int))) = 0) (o_6 : (tOK (s.2 6) ∧ aOK (s.2 6) (s.2 7))) (f_7 : Int → Int) (f_8 : Int → Int) (f_9 : Int → Int) (f_10 : Int → Int) (f_11 : Int → Int) (f_12 : Int → Int) (f_13 : Int → Int) (k_14 : Int) (q_15 : (GO (s.2 6) (s.2 7) f_9 f_10 f_11 f_12)) : (0 ≤ a1 ∧ a1 < 10000) := by
  obtain ⟨ht, ha⟩ := hp
  have hN := tOK_N ht
  have hg := nx_rng (s.2 6) (s.2 7)
  (try simp only [bI_0, bI_n, Classical.not_not] at *)
  (try have hq := ‹GO (s.2 6) (s.2 7) _ _ _ _›)
  (try have hq := hI.2.1)
  (try have hx := GO_at hq (x := a1) (by omega) (by omega))
  (try unfold lex3)
  (try simp only [bI_0, bI_n, Classical.not_not] at *)
  (try simp (disch := omega) only [i32_id] at *)
  first | done | omega | ((repeat' (with_reducible apply And.intro)) <;> first | assumption | rfl | omega | (unfold rAfter; rw [if_neg (by omega)]) | (exact NXO_rng (GO_n hq)) | (rw [hx.2.1.1, hx.2.2.2.1]; omega) | (unfold rAfter; rw [if_pos (by omega), NXO_it (GO_n hq) (by omega) (by omega)]) | grind [upI])
theorem vX3_after_5 (s : MS) (a1 : Int) (a2 : Int) (hp : tOK (s.2 6) ∧ aOK (s.2 6) (s.2 7)) (o_1 : (tOK (s.2 6))) (c_3 : ¬ (bI (0 ≤ a1 ∧ a1 < (s.2 6) 2)) = 0) (c_5 : ¬ (bI ((0 : Int) ≤ a2 ∧ a2 ≤ (1000000000 : Int))) = 0) (o_6 : (tOK (s.2 6) ∧ aOK (s.2 6) (s.2 7))) (f_7 : Int → Int) (f_8 : Int → Int) (f_9 : Int → Int) (f_10 : Int → Int) (f_11 : Int → Int) (f_12 : Int → Int) (f_13 : Int → Int) (k_14 : Int) (q_15 : (GO (s.2 6) (s.2 7) f_9 f_10 f_11 f_12)) (o_16 : (0 ≤ a1 ∧ a1 < 10000)) (c_17 : (f_10 a1) < a2) : (rng f_9 ((s.2 6) 2) ∧ (s.2 6) 2 ≤ 10000 ∧ 0 ≤ a1 ∧ a1 < (s.2 6) 2 ∧ 0 ≤ (f_10 a1) ∧ (f_10 a1) ≤ 1000000000) := by
  obtain ⟨ht, ha⟩ := hp
  have hN := tOK_N ht
  have hg := nx_rng (s.2 6) (s.2 7)
  (try simp only [bI_0, bI_n, Classical.not_not] at *)
  (try have hq := ‹GO (s.2 6) (s.2 7) _ _ _ _›)
  (try have hq := hI.2.1)
  (try have hx := GO_at hq (x := a1) (by omega) (by omega))
  (try unfold lex3)
  (try simp only [bI_0, bI_n, Classical.not_not] at *)
  (try simp (disch := omega) only [i32_id] at *)
  first | done | omega | ((repeat' (with_reducible apply And.intro)) <;> first | assumption | rfl | omega | (unfold rAfter; rw [if_neg (by omega)]) | (exact NXO_rng (GO_n hq)) | (rw [hx.2.1.1, hx.2.2.2.1]; omega) | (unfold rAfter; rw [if_pos (by omega), NXO_it (GO_n hq) (by omega) (by omega)]) | grind [upI])
theorem vX3_after_6 (s : MS) (a1 : Int) (a2 : Int) (hp : tOK (s.2 6) ∧ aOK (s.2 6) (s.2 7)) (o_1 : (tOK (s.2 6))) (c_3 : ¬ (bI (0 ≤ a1 ∧ a1 < (s.2 6) 2)) = 0) (c_5 : ¬ (bI ((0 : Int) ≤ a2 ∧ a2 ≤ (1000000000 : Int))) = 0) (o_6 : (tOK (s.2 6) ∧ aOK (s.2 6) (s.2 7))) (f_7 : Int → Int) (f_8 : Int → Int) (f_9 : Int → Int) (f_10 : Int → Int) (f_11 : Int → Int) (f_12 : Int → Int) (f_13 : Int → Int) (k_14 : Int) (q_15 : (GO (s.2 6) (s.2 7) f_9 f_10 f_11 f_12)) (o_16 : (0 ≤ a1 ∧ a1 < 10000)) (c_17 : (f_10 a1) < a2) (o_18 : (rng f_9 ((s.2 6) 2) ∧ (s.2 6) 2 ≤ 10000 ∧ 0 ≤ a1 ∧ a1 < (s.2 6) 2 ∧ 0 ≤ (f_10 a1) ∧ (f_10 a1) ≤ 1000000000)) : (0 ≤ (f_11 a1) ∧ (f_11 a1) < 10000) := by
  obtain ⟨ht, ha⟩ := hp
  have hN := tOK_N ht
  have hg := nx_rng (s.2 6) (s.2 7)
  (try simp only [bI_0, bI_n, Classical.not_not] at *)
  (try have hq := ‹GO (s.2 6) (s.2 7) _ _ _ _›)
  (try have hq := hI.2.1)
  (try have hx := GO_at hq (x := a1) (by omega) (by omega))
  (try unfold lex3)
  (try simp only [bI_0, bI_n, Classical.not_not] at *)
  (try simp (disch := omega) only [i32_id] at *)
  first | done | omega | ((repeat' (with_reducible apply And.intro)) <;> first | assumption | rfl | omega | (unfold rAfter; rw [if_neg (by omega)]) | (exact NXO_rng (GO_n hq)) | (rw [hx.2.1.1, hx.2.2.2.1]; omega) | (unfold rAfter; rw [if_pos (by omega), NXO_it (GO_n hq) (by omega) (by omega)]) | grind [upI])
theorem vX3_after_7 (s : MS) (a1 : Int) (a2 : Int) (hp : tOK (s.2 6) ∧ aOK (s.2 6) (s.2 7)) (o_1 : (tOK (s.2 6))) (c_3 : ¬ (bI (0 ≤ a1 ∧ a1 < (s.2 6) 2)) = 0) (c_5 : ¬ (bI ((0 : Int) ≤ a2 ∧ a2 ≤ (1000000000 : Int))) = 0) (o_6 : (tOK (s.2 6) ∧ aOK (s.2 6) (s.2 7))) (f_7 : Int → Int) (f_8 : Int → Int) (f_9 : Int → Int) (f_10 : Int → Int) (f_11 : Int → Int) (f_12 : Int → Int) (f_13 : Int → Int) (k_14 : Int) (q_15 : (GO (s.2 6) (s.2 7) f_9 f_10 f_11 f_12)) (o_16 : (0 ≤ a1 ∧ a1 < 10000)) (c_17 : (f_10 a1) < a2) (o_18 : (rng f_9 ((s.2 6) 2) ∧ (s.2 6) 2 ≤ 10000 ∧ 0 ≤ a1 ∧ a1 < (s.2 6) 2 ∧ 0 ≤ (f_10 a1) ∧ (f_10 a1) ≤ 1000000000)) (o_20 : (0 ≤ (f_11 a1) ∧ (f_11 a1) < 10000)) : (f_12 (f_11 a1)) ≠ 0 := by
  obtain ⟨ht, ha⟩ := hp
  have hN := tOK_N ht
  have hg := nx_rng (s.2 6) (s.2 7)
  (try simp only [bI_0, bI_n, Classical.not_not] at *)
  (try have hq := ‹GO (s.2 6) (s.2 7) _ _ _ _›)
  (try have hq := hI.2.1)
  (try have hx := GO_at hq (x := a1) (by omega) (by omega))
  (try unfold lex3)
  (try simp only [bI_0, bI_n, Classical.not_not] at *)
  (try simp (disch := omega) only [i32_id] at *)
  first | done | omega | ((repeat' (with_reducible apply And.intro)) <;> first | assumption | rfl | omega | (unfold rAfter; rw [if_neg (by omega)]) | (exact NXO_rng (GO_n hq)) | (rw [hx.2.1.1, hx.2.2.2.1]; omega) | (unfold rAfter; rw [if_pos (by omega), NXO_it (GO_n hq) (by omega) (by omega)]) | grind [upI])
theorem vX3_after_8 (s : MS) (a1 : Int) (a2 : Int) (hp : tOK (s.2 6) ∧ aOK (s.2 6) (s.2 7)) (o_1 : (tOK (s.2 6))) (c_3 : ¬ (bI (0 ≤ a1 ∧ a1 < (s.2 6) 2)) = 0) (c_5 : ¬ (bI ((0 : Int) ≤ a2 ∧ a2 ≤ (1000000000 : Int))) = 0) (o_6 : (tOK (s.2 6) ∧ aOK (s.2 6) (s.2 7))) (f_7 : Int → Int) (f_8 : Int → Int) (f_9 : Int → Int) (f_10 : Int → Int) (f_11 : Int → Int) (f_12 : Int → Int) (f_13 : Int → Int) (k_14 : Int) (q_15 : (GO (s.2 6) (s.2 7) f_9 f_10 f_11 f_12)) (o_16 : (0 ≤ a1 ∧ a1 < 10000)) (c_17 : (f_10 a1) < a2) (o_18 : (rng f_9 ((s.2 6) 2) ∧ (s.2 6) 2 ≤ 10000 ∧ 0 ≤ a1 ∧ a1 < (s.2 6) 2 ∧ 0 ≤ (f_10 a1) ∧ (f_10 a1) ≤ 1000000000)) (o_20 : (0 ≤ (f_11 a1) ∧ (f_11 a1) < 10000)) (o_21 : (f_12 (f_11 a1)) ≠ 0) : (rng f_9 ((s.2 6) 2) ∧ (s.2 6) 2 ≤ 10000 ∧ 0 ≤ (it f_9 a1 ((f_10 a1)).toNat) ∧ (it f_9 a1 ((f_10 a1)).toNat) < (s.2 6) 2 ∧ 0 ≤ (i32 (Int.tmod (i32 (a2 - (f_10 a1))) (f_12 (f_11 a1)))) ∧ (i32 (Int.tmod (i32 (a2 - (f_10 a1))) (f_12 (f_11 a1)))) ≤ 1000000000) := by
  obtain ⟨ht, ha⟩ := hp
  have hN := tOK_N ht
  have hg := nx_rng (s.2 6) (s.2 7)
  (try simp only [bI_0, bI_n, Classical.not_not] at *)
  (try have hq := ‹GO (s.2 6) (s.2 7) _ _ _ _›)
  (try have hq := hI.2.1)
  (try have hx := GO_at hq (x := a1) (by omega) (by omega))
  have e := i32_tm2 (v := a2 - f_10 a1) (N := f_12 (f_11 a1)) (by omega) (by omega) (by rw [hx.2.1.1, hx.2.2.2.1]; omega)
  have hb := it_b hg (x := a1) (by omega) (by omega) (f_10 a1).toNat
  rw [hx.2.1.1, hx.2.2.2.1, hx.1.2.1] at e
  rw [hx.1.2.1] at hb
  rw [hx.2.1.1, hx.2.2.2.1, hx.1.2.1, e, NXO_it (GO_n hq) (x := a1) (by omega) (by omega)]
  have := Int.emod_nonneg (a2 - tl (nx (s.2 6) (s.2 7)) a1) (b := rg (nx (s.2 6) (s.2 7)) (hm (nx (s.2 6) (s.2 7)) a1)) (by omega)
  have := Int.emod_lt_of_pos (a2 - tl (nx (s.2 6) (s.2 7)) a1) (b := rg (nx (s.2 6) (s.2 7)) (hm (nx (s.2 6) (s.2 7)) a1)) (by omega)
  exact ⟨NXO_rng (GO_n hq), by omega, hb.1, hb.2, by omega, by omega⟩
theorem vX3_after_9 (s : MS) (a1 : Int) (a2 : Int) (hp : tOK (s.2 6) ∧ aOK (s.2 6) (s.2 7)) (o_1 : (tOK (s.2 6))) (c_3 : ¬ (bI (0 ≤ a1 ∧ a1 < (s.2 6) 2)) = 0) (c_5 : ¬ (bI ((0 : Int) ≤ a2 ∧ a2 ≤ (1000000000 : Int))) = 0) (o_6 : (tOK (s.2 6) ∧ aOK (s.2 6) (s.2 7))) (f_7 : Int → Int) (f_8 : Int → Int) (f_9 : Int → Int) (f_10 : Int → Int) (f_11 : Int → Int) (f_12 : Int → Int) (f_13 : Int → Int) (k_14 : Int) (q_15 : (GO (s.2 6) (s.2 7) f_9 f_10 f_11 f_12)) (o_16 : (0 ≤ a1 ∧ a1 < 10000)) (c_17 : (f_10 a1) < a2) (o_18 : (rng f_9 ((s.2 6) 2) ∧ (s.2 6) 2 ≤ 10000 ∧ 0 ≤ a1 ∧ a1 < (s.2 6) 2 ∧ 0 ≤ (f_10 a1) ∧ (f_10 a1) ≤ 1000000000)) (o_20 : (0 ≤ (f_11 a1) ∧ (f_11 a1) < 10000)) (o_21 : (f_12 (f_11 a1)) ≠ 0) (o_22 : (rng f_9 ((s.2 6) 2) ∧ (s.2 6) 2 ≤ 10000 ∧ 0 ≤ (it f_9 a1 ((f_10 a1)).toNat) ∧ (it f_9 a1 ((f_10 a1)).toNat) < (s.2 6) 2 ∧ 0 ≤ (i32 (Int.tmod (i32 (a2 - (f_10 a1))) (f_12 (f_11 a1)))) ∧ (i32 (Int.tmod (i32 (a2 - (f_10 a1))) (f_12 (f_11 a1)))) ≤ 1000000000)) : (it f_9 (it f_9 a1 ((f_10 a1)).toNat) ((i32 (Int.tmod (i32 (a2 - (f_10 a1))) (f_12 (f_11 a1))))).toNat) = (rAfter (s.2 6) (s.2 7) a1 a2) := by
  obtain ⟨ht, ha⟩ := hp
  have hN := tOK_N ht
  have hg := nx_rng (s.2 6) (s.2 7)
  (try simp only [bI_0, bI_n, Classical.not_not] at *)
  (try have hq := ‹GO (s.2 6) (s.2 7) _ _ _ _›)
  (try have hq := hI.2.1)
  (try have hx := GO_at hq (x := a1) (by omega) (by omega))
  have e := i32_tm2 (v := a2 - f_10 a1) (N := f_12 (f_11 a1)) (by omega) (by omega) (by rw [hx.2.1.1, hx.2.2.2.1]; omega)
  have hb := it_b hg (x := a1) (by omega) (by omega) (f_10 a1).toNat
  rw [hx.2.1.1, hx.2.2.2.1, hx.1.2.1] at e
  rw [hx.1.2.1] at hb
  unfold rAfter
  rw [if_pos (by omega), hx.2.1.1, hx.2.2.2.1, hx.1.2.1, e, NXO_it (GO_n hq) (x := a1) (by omega) (by omega), NXO_it (GO_n hq) hb.1 hb.2]
  exact after_eq hg (by omega) (by omega) (by omega)
theorem vX3_after_10 (s : MS) (a1 : Int) (a2 : Int) (hp : tOK (s.2 6) ∧ aOK (s.2 6) (s.2 7)) (o_1 : (tOK (s.2 6))) (c_3 : ¬ (bI (0 ≤ a1 ∧ a1 < (s.2 6) 2)) = 0) (c_5 : ¬ (bI ((0 : Int) ≤ a2 ∧ a2 ≤ (1000000000 : Int))) = 0) (o_6 : (tOK (s.2 6) ∧ aOK (s.2 6) (s.2 7))) (f_7 : Int → Int) (f_8 : Int → Int) (f_9 : Int → Int) (f_10 : Int → Int) (f_11 : Int → Int) (f_12 : Int → Int) (f_13 : Int → Int) (k_14 : Int) (q_15 : (GO (s.2 6) (s.2 7) f_9 f_10 f_11 f_12)) (o_16 : (0 ≤ a1 ∧ a1 < 10000)) (c_17 : ¬ (f_10 a1) < a2) : (rng f_9 ((s.2 6) 2) ∧ (s.2 6) 2 ≤ 10000 ∧ 0 ≤ a1 ∧ a1 < (s.2 6) 2 ∧ 0 ≤ a2 ∧ a2 ≤ 1000000000) := by
  obtain ⟨ht, ha⟩ := hp
  have hN := tOK_N ht
  have hg := nx_rng (s.2 6) (s.2 7)
  (try simp only [bI_0, bI_n, Classical.not_not] at *)
  (try have hq := ‹GO (s.2 6) (s.2 7) _ _ _ _›)
  (try have hq := hI.2.1)
  (try have hx := GO_at hq (x := a1) (by omega) (by omega))
  (try unfold lex3)
  (try simp only [bI_0, bI_n, Classical.not_not] at *)
  (try simp (disch := omega) only [i32_id] at *)
  first | done | omega | ((repeat' (with_reducible apply And.intro)) <;> first | assumption | rfl | omega | (unfold rAfter; rw [if_neg (by omega)]) | (exact NXO_rng (GO_n hq)) | (rw [hx.2.1.1, hx.2.2.2.1]; omega) | (unfold rAfter; rw [if_pos (by omega), NXO_it (GO_n hq) (by omega) (by omega)]) | grind [upI])
theorem vX3_after_11 (s : MS) (a1 : Int) (a2 : Int) (hp : tOK (s.2 6) ∧ aOK (s.2 6) (s.2 7)) (o_1 : (tOK (s.2 6))) (c_3 : ¬ (bI (0 ≤ a1 ∧ a1 < (s.2 6) 2)) = 0) (c_5 : ¬ (bI ((0 : Int) ≤ a2 ∧ a2 ≤ (1000000000 : Int))) = 0) (o_6 : (tOK (s.2 6) ∧ aOK (s.2 6) (s.2 7))) (f_7 : Int → Int) (f_8 : Int → Int) (f_9 : Int → Int) (f_10 : Int → Int) (f_11 : Int → Int) (f_12 : Int → Int) (f_13 : Int → Int) (k_14 : Int) (q_15 : (GO (s.2 6) (s.2 7) f_9 f_10 f_11 f_12)) (o_16 : (0 ≤ a1 ∧ a1 < 10000)) (c_17 : ¬ (f_10 a1) < a2) (o_24 : (rng f_9 ((s.2 6) 2) ∧ (s.2 6) 2 ≤ 10000 ∧ 0 ≤ a1 ∧ a1 < (s.2 6) 2 ∧ 0 ≤ a2 ∧ a2 ≤ 1000000000)) : (it f_9 a1 (a2).toNat) = (rAfter (s.2 6) (s.2 7) a1 a2) := by
  obtain ⟨ht, ha⟩ := hp
  have hN := tOK_N ht
  have hg := nx_rng (s.2 6) (s.2 7)
  (try simp only [bI_0, bI_n, Classical.not_not] at *)
  (try have hq := ‹GO (s.2 6) (s.2 7) _ _ _ _›)
  (try have hq := hI.2.1)
  (try have hx := GO_at hq (x := a1) (by omega) (by omega))
  (try unfold lex3)
  (try simp only [bI_0, bI_n, Classical.not_not] at *)
  (try simp (disch := omega) only [i32_id] at *)
  first | done | omega | ((repeat' (with_reducible apply And.intro)) <;> first | assumption | rfl | omega | (unfold rAfter; rw [if_neg (by omega)]) | (exact NXO_rng (GO_n hq)) | (rw [hx.2.1.1, hx.2.2.2.1]; omega) | (unfold rAfter; rw [if_pos (by omega), NXO_it (GO_n hq) (by omega) (by omega)]) | grind [upI])
theorem vX3_after_12 (s : MS) (a1 : Int) (a2 : Int) (hp : tOK (s.2 6) ∧ aOK (s.2 6) (s.2 7)) (o_1 : (tOK (s.2 6))) (c_3 : ¬ (bI (0 ≤ a1 ∧ a1 < (s.2 6) 2)) = 0) (c_5 : (bI ((0 : Int) ≤ a2 ∧ a2 ≤ (1000000000 : Int))) = 0) : (-2) = (rAfter (s.2 6) (s.2 7) a1 a2) := by
  obtain ⟨ht, ha⟩ := hp
  have hN := tOK_N ht
  have hg := nx_rng (s.2 6) (s.2 7)
  (try simp only [bI_0, bI_n, Classical.not_not] at *)
  (try have hq := ‹GO (s.2 6) (s.2 7) _ _ _ _›)
  (try have hq := hI.2.1)
  (try have hx := GO_at hq (x := a1) (by omega) (by omega))
  (try unfold lex3)
  (try simp only [bI_0, bI_n, Classical.not_not] at *)
  (try simp (disch := omega) only [i32_id] at *)
  first | done | omega | ((repeat' (with_reducible apply And.intro)) <;> first | assumption | rfl | omega | (unfold rAfter; rw [if_neg (by omega)]) | (exact NXO_rng (GO_n hq)) | (rw [hx.2.1.1, hx.2.2.2.1]; omega) | (unfold rAfter; rw [if_pos (by omega), NXO_it (GO_n hq) (by omega) (by omega)]) | grind [upI])
theorem ctX3_after (b : AH) (s : MS) (a1 : Int) (a2 : Int) (hp : tOK (s.2 6) ∧ aOK (s.2 6) (s.2 7)) : MC mX3_after 9 b s [vI a1, vI a2] (QX3_after s a1 a2) := by
  refine MC.of (by decide) rfl (Nat.le_of_ble_eq_true rfl) (JW.steq (s2 := sS (sS (sS (sS (sA (sA (sA (sA (sA (sA (sA (sA (sA s 11 (s.2 11)) 12 (s.2 12)) 13 (s.2 13)) 14 (s.2 14)) 15 (s.2 15)) 16 (s.2 16)) 17 (s.2 17)) 18 (s.2 18)) 19 (s.2 19)) 0 (s.1 0)) 25 (s.1 25)) 33 (s.1 33)) 34 (s.1 34)) (by simp only [sA_id, sS_id]) ?_)
  refine bX3_after_0 b s a1 a2 (s.2 11) (s.2 12) (s.2 13) (s.2 14) (s.2 15) (s.2 16) (s.2 17) (s.2 18) (s.2 19) (s.1 0) (s.1 25) (s.1 33) (s.1 34) ?_
  have o_1 : (tOK (s.2 6)) := (vX3_after_1 s a1 a2 hp)
  refine ⟨o_1, ?_⟩
  refine ⟨fun c_3 => ?_, fun c_3 => ?_⟩
  · exact ⟨(s.2 11), (s.2 12), (s.2 13), (s.2 14), (s.2 15), (s.2 16), (s.2 17), (s.2 18), (s.2 19), (s.1 25), (s.1 33), (s.1 34), (rI_c (vX3_after_2 s a1 a2 hp o_1 c_3)), rfl⟩
  · refine ⟨fun c_5 => ?_, fun c_5 => ?_⟩
    · have o_6 : (tOK (s.2 6) ∧ aOK (s.2 6) (s.2 7)) := (vX3_after_3 s a1 a2 hp o_1 c_3 c_5)
      refine ⟨o_6, ?_⟩
      intro f_7 f_8 f_9 f_10 f_11 f_12 f_13 k_14 q_15
      have o_16 : (0 ≤ a1 ∧ a1 < 10000) := (vX3_after_4 s a1 a2 hp o_1 c_3 c_5 o_6 f_7 f_8 f_9 f_10 f_11 f_12 f_13 k_14 q_15)
      refine ⟨o_16, ?_⟩
      refine ⟨fun c_17 => ?_, fun c_17 => ?_⟩
      · have o_18 : (rng f_9 ((s.2 6) 2) ∧ (s.2 6) 2 ≤ 10000 ∧ 0 ≤ a1 ∧ a1 < (s.2 6) 2 ∧ 0 ≤ (f_10 a1) ∧ (f_10 a1) ≤ 1000000000) := (vX3_after_5 s a1 a2 hp o_1 c_3 c_5 o_6 f_7 f_8 f_9 f_10 f_11 f_12 f_13 k_14 q_15 o_16 c_17)
        refine ⟨o_18, ?_⟩
        have o_20 : (0 ≤ (f_11 a1) ∧ (f_11 a1) < 10000) := (vX3_after_6 s a1 a2 hp o_1 c_3 c_5 o_6 f_7 f_8 f_9 f_10 f_11 f_12 f_13 k_14 q_15 o_16 c_17 o_18)
        refine ⟨o_20, ?_⟩
        have o_21 : (f_12 (f_11 a1)) ≠ 0 := (vX3_after_7 s a1 a2 hp o_1 c_3 c_5 o_6 f_7 f_8 f_9 f_10 f_11 f_12 f_13 k_14 q_15 o_16 c_17 o_18 o_20)
        refine ⟨o_21, ?_⟩
        have o_22 : (rng f_9 ((s.2 6) 2) ∧ (s.2 6) 2 ≤ 10000 ∧ 0 ≤ (it f_9 a1 ((f_10 a1)).toNat) ∧ (it f_9 a1 ((f_10 a1)).toNat) < (s.2 6) 2 ∧ 0 ≤ (i32 (Int.tmod (i32 (a2 - (f_10 a1))) (f_12 (f_11 a1)))) ∧ (i32 (Int.tmod (i32 (a2 - (f_10 a1))) (f_12 (f_11 a1)))) ≤ 1000000000) := (vX3_after_8 s a1 a2 hp o_1 c_3 c_5 o_6 f_7 f_8 f_9 f_10 f_11 f_12 f_13 k_14 q_15 o_16 c_17 o_18 o_20 o_21)
        refine ⟨o_22, ?_⟩
        exact ⟨f_7, f_8, f_9, f_10, f_11, f_12, f_13, (s.2 18), (s.2 19), k_14, (s.1 33), (s.1 34), (rI_c (vX3_after_9 s a1 a2 hp o_1 c_3 c_5 o_6 f_7 f_8 f_9 f_10 f_11 f_12 f_13 k_14 q_15 o_16 c_17 o_18 o_20 o_21 o_22)), rfl⟩
      · have o_24 : (rng f_9 ((s.2 6) 2) ∧ (s.2 6) 2 ≤ 10000 ∧ 0 ≤ a1 ∧ a1 < (s.2 6) 2 ∧ 0 ≤ a2 ∧ a2 ≤ 1000000000) := (vX3_after_10 s a1 a2 hp o_1 c_3 c_5 o_6 f_7 f_8 f_9 f_10 f_11 f_12 f_13 k_14 q_15 o_16 c_17)
        refine ⟨o_24, ?_⟩
        exact ⟨f_7, f_8, f_9, f_10, f_11, f_12, f_13, (s.2 18), (s.2 19), k_14, (s.1 33), (s.1 34), (rI_c (vX3_after_11 s a1 a2 hp o_1 c_3 c_5 o_6 f_7 f_8 f_9 f_10 f_11 f_12 f_13 k_14 q_15 o_16 c_17 o_24)), rfl⟩
    · exact ⟨(s.2 11), (s.2 12), (s.2 13), (s.2 14), (s.2 15), (s.2 16), (s.2 17), (s.2 18), (s.2 19), (s.1 25), (s.1 33), (s.1 34), (rI_c (vX3_after_12 s a1 a2 hp o_1 c_3 c_5)), rfl⟩
def HX3_ends_2_0 (Q : Option AV → MS → Prop) (b : AH) (s : MS) (x1 : Int) (x2 : Int) (f11 : Int → Int) (f12 : Int → Int) (f13 : Int → Int) (f14 : Int → Int) (f15 : Int → Int) (f16 : Int → Int) (f17 : Int → Int) (f18 : Int → Int) (f19 : Int → Int) (k0 : Int) (k25 : Int) (k33 : Int) (k34 : Int) : Prop := MW mX3_ends_2 9 Q b 0 [(0, vR 351), (1, vI x1), (2, vI x2)] [] (sS (sS (sS (sS (sA (sA (sA (sA (sA (sA (sA (sA (sA s 11 f11) 12 f12) 13 f13) 14 f14) 15 f15) 16 f16) 17 f17) 18 f18) 19 f19) 0 k0) 25 k25) 33 k33) 34 k34)
theorem bX3_ends_2_0 {Q : Option AV → MS → Prop} (b : AH) (s : MS) (x1 : Int) (x2 : Int) (f11 : Int → Int) (f12 : Int → Int) (f13 : Int → Int) (f14 : Int → Int) (f15 : Int → Int) (f16 : Int → Int) (f17 : Int → Int) (f18 : Int → Int) (f19 : Int → Int) (k0 : Int) (k25 : Int) (k33 : Int) (k34 : Int) (K : (tOK (s.2 6)) ∧ (((bI (0 ≤ x1 ∧ x1 < (s.2 6) 2)) = 0 → Q (some (vI (-2))) (sS (sS (sS (sS (sA (sA (sA (sA (sA (sA (sA (sA (sA s 11 f11) 12 f12) 13 f13) 14 f14) 15 f15) 16 f16) 17 f17) 18 f18) 19 f19) 0 0) 25 k25) 33 k33) 34 k34)) ∧ (¬ (bI (0 ≤ x1 ∧ x1 < (s.2 6) 2)) = 0 → (¬ (bI ((0 : Int) ≤ x2 ∧ x2 ≤ (3 : Int))) = 0 → (tOK (s.2 6) ∧ aOK (s.2 6) (s.2 7)) ∧ ((∀ (f_7 : Int → Int) (f_8 : Int → Int) (f_9 : Int → Int) (f_10 : Int → Int) (f_11 : Int → Int) (f_12 : Int → Int) (f_13 : Int → Int) (k_14 : Int), (GO (s.2 6) (s.2 7) f_9 f_10 f_11 f_12) → (¬ x2 = 0 → (¬ x2 = 1 → (¬ x2 = 2 → (0 ≤ x1 ∧ x1 < 10000) ∧ ((rng f_9 ((s.2 6) 2) ∧ (s.2 6) 2 ≤ 10000 ∧ 0 ≤ x1 ∧ x1 < (s.2 6) 2 ∧ 0 ≤ (f_10 x1) ∧ (f_10 x1) ≤ 1000000000) ∧ (Q (some (vI (it f_9 x1 ((f_10 x1)).toNat))) (sS (sS (sS (sS (sA (sA (sA (sA (sA (sA (sA (sA (sA s 11 f_7) 12 f_8) 13 f_9) 14 f_10) 15 f_11) 16 f_12) 17 f_13) 18 f18) 19 f19) 0 0) 25 k_14) 33 k33) 34 k34)))) ∧ (x2 = 2 → (0 ≤ x1 ∧ x1 < 10000) ∧ (Q (some (vI (f_11 x1))) (sS (sS (sS (sS (sA (sA (sA (sA (sA (sA (sA (sA (sA s 11 f_7) 12 f_8) 13 f_9) 14 f_10) 15 f_11) 16 f_12) 17 f_13) 18 f18) 19 f19) 0 0) 25 k_14) 33 k33) 34 k34)))) ∧ (x2 = 1 → (0 ≤ x1 ∧ x1 < 10000) ∧ ((0 ≤ (f_11 x1) ∧ (f_11 x1) < 10000) ∧ (Q (some (vI (f_12 (f_11 x1)))) (sS (sS (sS (sS (sA (sA (sA (sA (sA (sA (sA (sA (sA s 11 f_7) 12 f_8) 13 f_9) 14 f_10) 15 f_11) 16 f_12) 17 f_13) 18 f18) 19 f19) 0 0) 25 k_14) 33 k33) 34 k34))))) ∧ (x2 = 0 → (0 ≤ x1 ∧ x1 < 10000) ∧ (Q (some (vI (f_10 x1))) (sS (sS (sS (sS (sA (sA (sA (sA (sA (sA (sA (sA (sA s 11 f_7) 12 f_8) 13 f_9) 14 f_10) 15 f_11) 16 f_12) 17 f_13) 18 f18) 19 f19) 0 0) 25 k_14) 33 k33) 34 k34)))))) ∧ ((bI ((0 : Int) ≤ x2 ∧ x2 ≤ (3 : Int))) = 0 → Q (some (vI (-2))) (sS (sS (sS (sS (sA (sA (sA (sA (sA (sA (sA (sA (sA s 11 f11) 12 f12) 13 f13) 14 f14) 15 f15) 16 f16) 17 f17) 18 f18) 19 f19) 0 0) 25 k25) 33 k33) 34 k34))))) : HX3_ends_2_0 Q b s x1 x2 f11 f12 f13 f14 f15 f16 f17 f18 f19 k0 k25 k33 k34 := by
  refine JW.aload_n dX3_ends_2_0 rfl ?_
  refine JW.iconst dX3_ends_2_1 rfl ?_
  refine JW.mputI dX3_ends_2_2 (pX3_77 _) rfl ?_
  refine JW.steq (s2 := sS (sS (sS (sS (sA (sA (sA (sA (sA (sA (sA (sA (sA s 11 f11) 12 f12) 13 f13) 14 f14) 15 f15) 16 f16) 17 f17) 18 f18) 19 f19) 0 0) 25 k25) 33 k33) 34 k34) (by simp only [sA_A, sS_S, sA_S, sA_lt, sS_lt, Nat.reduceLT, id_eq] <;> rfl) ?_
  refine JW.aload_n dX3_ends_2_5 rfl ?_
  refine JW.iload_n dX3_ends_2_6 rfl ?_
  refine JW.i2l dX3_ends_2_7 ?_
  obtain ⟨o_1, K⟩ := K
  refine JW.mcall (As := [vL x1]) dX3_ends_2_8 vX3_isNumber rfl q1806 (ctX3_isNumber b (sS (sS (sS (sS (sA (sA (sA (sA (sA (sA (sA (sA (sA s 11 f11) 12 f12) 13 f13) 14 f14) 15 f15) 16 f16) 17 f17) 18 f18) 19 f19) 0 0) 25 k25) 33 k33) 34 k34) x1 o_1) (Nat.le_of_ble_eq_true rfl) rfl (Nat.le_of_ble_eq_true rfl) ?_
  rintro _ _ ⟨rfl, eq_2⟩
  refine JW.steq (s2 := sS (sS (sS (sS (sA (sA (sA (sA (sA (sA (sA (sA (sA s 11 f11) 12 f12) 13 f13) 14 f14) 15 f15) 16 f16) 17 f17) 18 f18) 19 f19) 0 0) 25 k25) 33 k33) 34 k34) eq_2 ?_
  refine JW.if_eq (tgt := 26) dX3_ends_2_11 rfl (fun c_3 => ?_) (fun c_3 => ?_)
  · have K := K.1 c_3
    refine JW.bipush dX3_ends_2_26 rfl ?_
    exact JW.ireturn dX3_ends_2_28 rfl rfl ⟨_, rfl, K⟩
  · have K := K.2 c_3
    refine JW.iload_n dX3_ends_2_14 rfl ?_
    refine JW.i2l dX3_ends_2_15 ?_
    refine JW.lconst (x := 0) dX3_ends_2_16 rfl ?_
    refine JW.ldc2 (x := 3) dX3_ends_2_17 q1631 rfl ?_
    refine JW.mcallS (As := [vL x2, vL 0, vL 3]) dX3_ends_2_20 vX3_in q1632 (ctX3_in b (sS (sS (sS (sS (sA (sA (sA (sA (sA (sA (sA (sA (sA s 11 f11) 12 f12) 13 f13) 14 f14) 15 f15) 16 f16) 17 f17) 18 f18) 19 f19) 0 0) 25 k25) 33 k33) 34 k34) x2 0 3) (Nat.le_of_ble_eq_true rfl) rfl (Nat.le_of_ble_eq_true rfl) ?_
    rintro _ _ ⟨rfl, eq_4⟩
    refine JW.steq (s2 := sS (sS (sS (sS (sA (sA (sA (sA (sA (sA (sA (sA (sA s 11 f11) 12 f12) 13 f13) 14 f14) 15 f15) 16 f16) 17 f17) 18 f18) 19 f19) 0 0) 25 k25) 33 k33) 34 k34) eq_4 ?_
    refine JW.if_ne (tgt := 29) dX3_ends_2_23 rfl (fun c_5 => ?_) (fun c_5 => ?_)
    · have K := K.1 c_5
      refine JW.aload_n dX3_ends_2_29 rfl ?_
      obtain ⟨o_6, K⟩ := K
      refine JW.mcall (As := []) dX3_ends_2_30 vX3_all rfl q1863 (ctX3_all b (sS (sS (sS (sS (sA (sA (sA (sA (sA (sA (sA (sA (sA s 11 f11) 12 f12) 13 f13) 14 f14) 15 f15) 16 f16) 17 f17) 18 f18) 19 f19) 0 0) 25 k25) 33 k33) 34 k34) o_6) (Nat.le_of_ble_eq_true rfl) rfl (Nat.le_of_ble_eq_true rfl) ?_
      rintro _ _ ⟨f_7, f_8, f_9, f_10, f_11, f_12, f_13, k_14, rfl, rfl, q_15⟩
      refine JW.steq (s2 := sS (sS (sS (sS (sA (sA (sA (sA (sA (sA (sA (sA (sA s 11 f_7) 12 f_8) 13 f_9) 14 f_10) 15 f_11) 16 f_12) 17 f_13) 18 f18) 19 f19) 0 0) 25 k_14) 33 k33) 34 k34) (by simp only [sA_A, sS_S, sA_S, sA_lt, sS_lt, Nat.reduceLT, id_eq] <;> rfl) ?_
      replace K := K f_7 f_8 f_9 f_10 f_11 f_12 f_13 k_14 q_15
      refine JW.iload_n dX3_ends_2_33 rfl ?_
      refine JW.if_ne (tgt := 46) dX3_ends_2_34 rfl (fun c_16 => ?_) (fun c_16 => ?_)
      · have K := K.1 c_16
        refine JW.iload_n dX3_ends_2_46 rfl ?_
        refine JW.iconst dX3_ends_2_47 rfl ?_
        refine JW.icmp_ne (tgt := 65) dX3_ends_2_48 rfl (fun c_17 => ?_) (fun c_17 => ?_)
        · have K := K.1 c_17
          refine JW.iload_n dX3_ends_2_65 rfl ?_
          refine JW.iconst dX3_ends_2_66 rfl ?_
          refine JW.icmp_ne (tgt := 79) dX3_ends_2_67 rfl (fun c_18 => ?_) (fun c_18 => ?_)
          · have K := K.1 c_18
            refine JW.aload_n dX3_ends_2_79 rfl ?_
            refine JW.iload_n dX3_ends_2_80 rfl ?_
            refine JW.aload_n dX3_ends_2_81 rfl ?_
            refine JW.mget (v := vR 366) dX3_ends_2_82 fX3_59 rfl ?_
            refine JW.iload_n dX3_ends_2_85 rfl ?_
            obtain ⟨o_19, K⟩ := K
            refine JW.mald 14 (x := (f_10 x1)) dX3_ends_2_86 (Nat.le_of_ble_eq_true rfl) rfl o_19.1 o_19.2 rfl ?_
            obtain ⟨o_20, K⟩ := K
            refine JW.mcall (As := [vI x1, vI (f_10 x1)]) dX3_ends_2_87 vX3_behind rfl q1883 (ctX3_behind b (sS (sS (sS (sS (sA (sA (sA (sA (sA (sA (sA (sA (sA s 11 f_7) 12 f_8) 13 f_9) 14 f_10) 15 f_11) 16 f_12) 17 f_13) 18 f18) 19 f19) 0 0) 25 k_14) 33 k33) 34 k34) x1 (f_10 x1) o_20) (Nat.le_of_ble_eq_true rfl) rfl (Nat.le_of_ble_eq_true rfl) ?_
            rintro _ _ ⟨rfl, eq_21⟩
            refine JW.steq (s2 := sS (sS (sS (sS (sA (sA (sA (sA (sA (sA (sA (sA (sA s 11 f_7) 12 f_8) 13 f_9) 14 f_10) 15 f_11) 16 f_12) 17 f_13) 18 f18) 19 f19) 0 0) 25 k_14) 33 k33) 34 k34) eq_21 ?_
            exact JW.ireturn dX3_ends_2_90 rfl rfl ⟨_, rfl, K⟩
          · have K := K.2 c_18
            refine JW.aload_n dX3_ends_2_70 rfl ?_
            refine JW.mget (v := vR 367) dX3_ends_2_71 fX3_62 rfl ?_
            refine JW.iload_n dX3_ends_2_74 rfl ?_
            obtain ⟨o_22, K⟩ := K
            refine JW.mald 15 (x := (f_11 x1)) dX3_ends_2_75 (Nat.le_of_ble_eq_true rfl) rfl o_22.1 o_22.2 rfl ?_
            refine JW.goto (tgt := 90) dX3_ends_2_76 rfl ?_
            exact JW.ireturn dX3_ends_2_90 rfl rfl ⟨_, rfl, K⟩
        · have K := K.2 c_17
          refine JW.aload_n dX3_ends_2_51 rfl ?_
          refine JW.mget (v := vR 368) dX3_ends_2_52 fX3_65 rfl ?_
          refine JW.aload_n dX3_ends_2_55 rfl ?_
          refine JW.mget (v := vR 367) dX3_ends_2_56 fX3_62 rfl ?_
          refine JW.iload_n dX3_ends_2_59 rfl ?_
          obtain ⟨o_23, K⟩ := K
          refine JW.mald 15 (x := (f_11 x1)) dX3_ends_2_60 (Nat.le_of_ble_eq_true rfl) rfl o_23.1 o_23.2 rfl ?_
          obtain ⟨o_24, K⟩ := K
          refine JW.mald 16 (x := (f_12 (f_11 x1))) dX3_ends_2_61 (Nat.le_of_ble_eq_true rfl) rfl o_24.1 o_24.2 rfl ?_
          refine JW.goto (tgt := 90) dX3_ends_2_62 rfl ?_
          exact JW.ireturn dX3_ends_2_90 rfl rfl ⟨_, rfl, K⟩
      · have K := K.2 c_16
        refine JW.aload_n dX3_ends_2_37 rfl ?_
        refine JW.mget (v := vR 366) dX3_ends_2_38 fX3_59 rfl ?_
        refine JW.iload_n dX3_ends_2_41 rfl ?_
        obtain ⟨o_25, K⟩ := K
        refine JW.mald 14 (x := (f_10 x1)) dX3_ends_2_42 (Nat.le_of_ble_eq_true rfl) rfl o_25.1 o_25.2 rfl ?_
        refine JW.goto (tgt := 90) dX3_ends_2_43 rfl ?_
        exact JW.ireturn dX3_ends_2_90 rfl rfl ⟨_, rfl, K⟩
    · have K := K.2 c_5
      refine JW.bipush dX3_ends_2_26 rfl ?_
      exact JW.ireturn dX3_ends_2_28 rfl rfl ⟨_, rfl, K⟩
def QX3_ends_2 (s : MS) (a1 : Int) (a2 : Int) : Option AV → MS → Prop := fun v s' => ∃ (f11 : Int → Int) (f12 : Int → Int) (f13 : Int → Int) (f14 : Int → Int) (f15 : Int → Int) (f16 : Int → Int) (f17 : Int → Int) (f18 : Int → Int) (f19 : Int → Int) (k25 : Int) (k33 : Int) (k34 : Int), v = some (vI (rEnds (s.2 6) (s.2 7) a1 a2)) ∧ s' = sS (sS (sS (sS (sA (sA (sA (sA (sA (sA (sA (sA (sA s 11 f11) 12 f12) 13 f13) 14 f14) 15 f15) 16 f16) 17 f17) 18 f18) 19 f19) 0 (0)) 25 k25) 33 k33) 34 k34
theorem vX3_ends_2_1 (s : MS) (a1 : Int) (a2 : Int) (hp : tOK (s.2 6) ∧ aOK (s.2 6) (s.2 7)) : (tOK (s.2 6)) := by
  obtain ⟨ht, ha⟩ := hp
  have hN := tOK_N ht
  have hg := nx_rng (s.2 6) (s.2 7)
  (try simp only [bI_0, bI_n, Classical.not_not] at *)
  (try have hq := ‹GO (s.2 6) (s.2 7) _ _ _ _›)
  (try have hq := hI.2.1)
  (try have hx := GO_at hq (x := a1) (by omega) (by omega))
  (try unfold lex3)
  (try simp only [bI_0, bI_n, Classical.not_not] at *)
  (try simp (disch := omega) only [i32_id] at *)
  first | done | omega | ((repeat' (with_reducible apply And.intro)) <;> first | assumption | rfl | omega | (unfold rEnds; rw [if_neg (by omega)]) | (exact NXO_rng (GO_n hq)) | (rw [hx.2.1.1, hx.2.2.2.1]; omega) | (unfold rEnds; rw [if_pos (by omega), if_pos (by omega)]; exact hx.1.2.1) | (unfold rEnds; rw [if_pos (by omega), if_neg (by omega), if_pos (by omega), hx.2.1.1]; exact hx.2.2.2.1) | (unfold rEnds; rw [if_pos (by omega), if_neg (by omega), if_neg (by omega), if_pos (by omega)]; exact hx.2.1.1) | (unfold rEnds; rw [if_pos (by omega), if_neg (by omega), if_neg (by omega), if_neg (by omega), NXO_it (GO_n hq) (by omega) (by omega), hx.1.2.1]) | grind [upI])
theorem vX3_ends_2_2 (s : MS) (a1 : Int) (a2 : Int) (hp : tOK (s.2 6) ∧ aOK (s.2 6) (s.2 7)) (o_1 : (tOK (s.2 6))) (c_3 : (bI (0 ≤ a1 ∧ a1 < (s.2 6) 2)) = 0) : (-2) = (rEnds (s.2 6) (s.2 7) a1 a2) := by
  obtain ⟨ht, ha⟩ := hp
  have hN := tOK_N ht
  have hg := nx_rng (s.2 6) (s.2 7)
  (try simp only [bI_0, bI_n, Classical.not_not] at *)
  (try have hq := ‹GO (s.2 6) (s.2 7) _ _ _ _›)
  (try have hq := hI.2.1)
  (try have hx := GO_at hq (x := a1) (by omega) (by omega))
  (try unfold lex3)
  (try simp only [bI_0, bI_n, Classical.not_not] at *)
  (try simp (disch := omega) only [i32_id] at *)
  first | done | omega | ((repeat' (with_reducible apply And.intro)) <;> first | assumption | rfl | omega | (unfold rEnds; rw [if_neg (by omega)]) | (exact NXO_rng (GO_n hq)) | (rw [hx.2.1.1, hx.2.2.2.1]; omega) | (unfold rEnds; rw [if_pos (by omega), if_pos (by omega)]; exact hx.1.2.1) | (unfold rEnds; rw [if_pos (by omega), if_neg (by omega), if_pos (by omega), hx.2.1.1]; exact hx.2.2.2.1) | (unfold rEnds; rw [if_pos (by omega), if_neg (by omega), if_neg (by omega), if_pos (by omega)]; exact hx.2.1.1) | (unfold rEnds; rw [if_pos (by omega), if_neg (by omega), if_neg (by omega), if_neg (by omega), NXO_it (GO_n hq) (by omega) (by omega), hx.1.2.1]) | grind [upI])
theorem vX3_ends_2_3 (s : MS) (a1 : Int) (a2 : Int) (hp : tOK (s.2 6) ∧ aOK (s.2 6) (s.2 7)) (o_1 : (tOK (s.2 6))) (c_3 : ¬ (bI (0 ≤ a1 ∧ a1 < (s.2 6) 2)) = 0) (c_5 : ¬ (bI ((0 : Int) ≤ a2 ∧ a2 ≤ (3 : Int))) = 0) : (tOK (s.2 6) ∧ aOK (s.2 6) (s.2 7)) := by
  obtain ⟨ht, ha⟩ := hp
  have hN := tOK_N ht
  have hg := nx_rng (s.2 6) (s.2 7)
  (try simp only [bI_0, bI_n, Classical.not_not] at *)
  (try have hq := ‹GO (s.2 6) (s.2 7) _ _ _ _›)
  (try have hq := hI.2.1)
  (try have hx := GO_at hq (x := a1) (by omega) (by omega))
  (try unfold lex3)
  (try simp only [bI_0, bI_n, Classical.not_not] at *)
  (try simp (disch := omega) only [i32_id] at *)
  first | done | omega | ((repeat' (with_reducible apply And.intro)) <;> first | assumption | rfl | omega | (unfold rEnds; rw [if_neg (by omega)]) | (exact NXO_rng (GO_n hq)) | (rw [hx.2.1.1, hx.2.2.2.1]; omega) | (unfold rEnds; rw [if_pos (by omega), if_pos (by omega)]; exact hx.1.2.1) | (unfold rEnds; rw [if_pos (by omega), if_neg (by omega), if_pos (by omega), hx.2.1.1]; exact hx.2.2.2.1) | (unfold rEnds; rw [if_pos (by omega), if_neg (by omega), if_neg (by omega), if_pos (by omega)]; exact hx.2.1.1) | (unfold rEnds; rw [if_pos (by omega), if_neg (by omega), if_neg (by omega), if_neg (by omega), NXO_it (GO_n hq) (by omega) (by omega), hx.1.2.1]) | grind [upI])
theorem vX3_ends_2_4 (s : MS) (a1 : Int) (a2 : Int) (hp : tOK (s.2 6) ∧ aOK (s.2 6) (s.2 7)) (o_1 : (tOK (s.2 6))) (c_3 : ¬ (bI (0 ≤ a1 ∧ a1 < (s.2 6) 2)) = 0) (c_5 : ¬ (bI ((0 : Int) ≤ a2 ∧ a2 ≤ (3 : Int))) = 0) (o_6 : (tOK (s.2 6) ∧ aOK (s.2 6) (s.2 7))) (f_7 : Int → Int) (f_8 : Int → Int) (f_9 : Int → Int) (f_10 : Int → Int) (f_11 : Int → Int) (f_12 : Int → Int) (f_13 : Int → Int) (k_14 : Int) (q_15 : (GO (s.2 6) (s.2 7) f_9 f_10 f_11 f_12)) (c_16 : ¬ a2 = 0) (c_17 : ¬ a2 = 1) (c_18 : ¬ a2 = 2) : (0 ≤ a1 ∧ a1 < 10000) := by
  obtain ⟨ht, ha⟩ := hp
  have hN := tOK_N ht
  have hg := nx_rng (s.2 6) (s.2 7)
  (try simp only [bI_0, bI_n, Classical.not_not] at *)
  (try have hq := ‹GO (s.2 6) (s.2 7) _ _ _ _›)
  (try have hq := hI.2.1)
  (try have hx := GO_at hq (x := a1) (by omega) (by omega))
  (try unfold lex3)
  (try simp only [bI_0, bI_n, Classical.not_not] at *)
  (try simp (disch := omega) only [i32_id] at *)
  first | done | omega | ((repeat' (with_reducible apply And.intro)) <;> first | assumption | rfl | omega | (unfold rEnds; rw [if_neg (by omega)]) | (exact NXO_rng (GO_n hq)) | (rw [hx.2.1.1, hx.2.2.2.1]; omega) | (unfold rEnds; rw [if_pos (by omega), if_pos (by omega)]; exact hx.1.2.1) | (unfold rEnds; rw [if_pos (by omega), if_neg (by omega), if_pos (by omega), hx.2.1.1]; exact hx.2.2.2.1) | (unfold rEnds; rw [if_pos (by omega), if_neg (by omega), if_neg (by omega), if_pos (by omega)]; exact hx.2.1.1) | (unfold rEnds; rw [if_pos (by omega), if_neg (by omega), if_neg (by omega), if_neg (by omega), NXO_it (GO_n hq) (by omega) (by omega), hx.1.2.1]) | grind [upI])
theorem vX3_ends_2_5 (s : MS) (a1 : Int) (a2 : Int) (hp : tOK (s.2 6) ∧ aOK (s.2 6) (s.2 7)) (o_1 : (tOK (s.2 6))) (c_3 : ¬ (bI (0 ≤ a1 ∧ a1 < (s.2 6) 2)) = 0) (c_5 : ¬ (bI ((0 : Int) ≤ a2 ∧ a2 ≤ (3 : Int))) = 0) (o_6 : (tOK (s.2 6) ∧ aOK (s.2 6) (s.2 7))) (f_7 : Int → Int) (f_8 : Int → Int) (f_9 : Int → Int) (f_10 : Int → Int) (f_11 : Int → Int) (f_12 : Int → Int) (f_13 : Int → Int) (k_14 : Int) (q_15 : (GO (s.2 6) (s.2 7) f_9 f_10 f_11 f_12)) (c_16 : ¬ a2 = 0) (c_17 : ¬ a2 = 1) (c_18 : ¬ a2 = 2) (o_19 : (0 ≤ a1 ∧ a1 < 10000)) : (rng f_9 ((s.2 6) 2) ∧ (s.2 6) 2 ≤ 10000 ∧ 0 ≤ a1 ∧ a1 < (s.2 6) 2 ∧ 0 ≤ (f_10 a1) ∧ (f_10 a1) ≤ 1000000000) := by
  obtain ⟨ht, ha⟩ := hp
  have hN := tOK_N ht
  have hg := nx_rng (s.2 6) (s.2 7)
  (try simp only [bI_0, bI_n, Classical.not_not] at *)
  (try have hq := ‹GO (s.2 6) (s.2 7) _ _ _ _›)
  (try have hq := hI.2.1)
  (try have hx := GO_at hq (x := a1) (by omega) (by omega))
  (try unfold lex3)
  (try simp only [bI_0, bI_n, Classical.not_not] at *)
  (try simp (disch := omega) only [i32_id] at *)
  first | done | omega | ((repeat' (with_reducible apply And.intro)) <;> first | assumption | rfl | omega | (unfold rEnds; rw [if_neg (by omega)]) | (exact NXO_rng (GO_n hq)) | (rw [hx.2.1.1, hx.2.2.2.1]; omega) | (unfold rEnds; rw [if_pos (by omega), if_pos (by omega)]; exact hx.1.2.1) | (unfold rEnds; rw [if_pos (by omega), if_neg (by omega), if_pos (by omega), hx.2.1.1]; exact hx.2.2.2.1) | (unfold rEnds; rw [if_pos (by omega), if_neg (by omega), if_neg (by omega), if_pos (by omega)]; exact hx.2.1.1) | (unfold rEnds; rw [if_pos (by omega), if_neg (by omega), if_neg (by omega), if_neg (by omega), NXO_it (GO_n hq) (by omega) (by omega), hx.1.2.1]) | grind [upI])
theorem vX3_ends_2_6 (s : MS) (a1 : Int) (a2 : Int) (hp : tOK (s.2 6) ∧ aOK (s.2 6) (s.2 7)) (o_1 : (tOK (s.2 6))) (c_3 : ¬ (bI (0 ≤ a1 ∧ a1 < (s.2 6) 2)) = 0) (c_5 : ¬ (bI ((0 : Int) ≤ a2 ∧ a2 ≤ (3 : Int))) = 0) (o_6 : (tOK (s.2 6) ∧ aOK (s.2 6) (s.2 7))) (f_7 : Int → Int) (f_8 : Int → Int) (f_9 : Int → Int) (f_10 : Int → Int) (f_11 : Int → Int) (f_12 : Int → Int) (f_13 : Int → Int) (k_14 : Int) (q_15 : (GO (s.2 6) (s.2 7) f_9 f_10 f_11 f_12)) (c_16 : ¬ a2 = 0) (c_17 : ¬ a2 = 1) (c_18 : ¬ a2 = 2) (o_19 : (0 ≤ a1 ∧ a1 < 10000)) (o_20 : (rng f_9 ((s.2 6) 2) ∧ (s.2 6) 2 ≤ 10000 ∧ 0 ≤ a1 ∧ a1 < (s.2 6) 2 ∧ 0 ≤ (f_10 a1) ∧ (f_10 a1) ≤ 1000000000)) : (it f_9 a1 ((f_10 a1)).toNat) = (rEnds (s.2 6) (s.2 7) a1 a2) := by
  obtain ⟨ht, ha⟩ := hp
  have hN := tOK_N ht
  have hg := nx_rng (s.2 6) (s.2 7)
  (try simp only [bI_0, bI_n, Classical.not_not] at *)
  (try have hq := ‹GO (s.2 6) (s.2 7) _ _ _ _›)
  (try have hq := hI.2.1)
  (try have hx := GO_at hq (x := a1) (by omega) (by omega))
  (try unfold lex3)
  (try simp only [bI_0, bI_n, Classical.not_not] at *)
  (try simp (disch := omega) only [i32_id] at *)
  first | done | omega | ((repeat' (with_reducible apply And.intro)) <;> first | assumption | rfl | omega | (unfold rEnds; rw [if_neg (by omega)]) | (exact NXO_rng (GO_n hq)) | (rw [hx.2.1.1, hx.2.2.2.1]; omega) | (unfold rEnds; rw [if_pos (by omega), if_pos (by omega)]; exact hx.1.2.1) | (unfold rEnds; rw [if_pos (by omega), if_neg (by omega), if_pos (by omega), hx.2.1.1]; exact hx.2.2.2.1) | (unfold rEnds; rw [if_pos (by omega), if_neg (by omega), if_neg (by omega), if_pos (by omega)]; exact hx.2.1.1) | (unfold rEnds; rw [if_pos (by omega), if_neg (by omega), if_neg (by omega), if_neg (by omega), NXO_it (GO_n hq) (by omega) (by omega), hx.1.2.1]) | grind [upI])
theorem vX3_ends_2_7 (s : MS) (a1 : Int) (a2 : Int) (hp : tOK (s.2 6) ∧ aOK (s.2 6) (s.2 7)) (o_1 : (tOK (s.2 6))) (c_3 : ¬ (bI (0 ≤ a1 ∧ a1 < (s.2 6) 2)) = 0) (c_5 : ¬ (bI ((0 : Int) ≤ a2 ∧ a2 ≤ (3 : Int))) = 0) (o_6 : (tOK (s.2 6) ∧ aOK (s.2 6) (s.2 7))) (f_7 : Int → Int) (f_8 : Int → Int) (f_9 : Int → Int) (f_10 : Int → Int) (f_11 : Int → Int) (f_12 : Int → Int) (f_13 : Int → Int) (k_14 : Int) (q_15 : (GO (s.2 6) (s.2 7) f_9 f_10 f_11 f_12)) (c_16 : ¬ a2 = 0) (c_17 : ¬ a2 = 1) (c_18 : a2 = 2) : (0 ≤ a1 ∧ a1 < 10000) := by
  obtain ⟨ht, ha⟩ := hp
  have hN := tOK_N ht
  have hg := nx_rng (s.2 6) (s.2 7)
  (try simp only [bI_0, bI_n, Classical.not_not] at *)
  (try have hq := ‹GO (s.2 6) (s.2 7) _ _ _ _›)
  (try have hq := hI.2.1)
  (try have hx := GO_at hq (x := a1) (by omega) (by omega))
  (try unfold lex3)
  (try simp only [bI_0, bI_n, Classical.not_not] at *)
  (try simp (disch := omega) only [i32_id] at *)
  first | done | omega | ((repeat' (with_reducible apply And.intro)) <;> first | assumption | rfl | omega | (unfold rEnds; rw [if_neg (by omega)]) | (exact NXO_rng (GO_n hq)) | (rw [hx.2.1.1, hx.2.2.2.1]; omega) | (unfold rEnds; rw [if_pos (by omega), if_pos (by omega)]; exact hx.1.2.1) | (unfold rEnds; rw [if_pos (by omega), if_neg (by omega), if_pos (by omega), hx.2.1.1]; exact hx.2.2.2.1) | (unfold rEnds; rw [if_pos (by omega), if_neg (by omega), if_neg (by omega), if_pos (by omega)]; exact hx.2.1.1) | (unfold rEnds; rw [if_pos (by omega), if_neg (by omega), if_neg (by omega), if_neg (by omega), NXO_it (GO_n hq) (by omega) (by omega), hx.1.2.1]) | grind [upI])
theorem vX3_ends_2_8 (s : MS) (a1 : Int) (a2 : Int) (hp : tOK (s.2 6) ∧ aOK (s.2 6) (s.2 7)) (o_1 : (tOK (s.2 6))) (c_3 : ¬ (bI (0 ≤ a1 ∧ a1 < (s.2 6) 2)) = 0) (c_5 : ¬ (bI ((0 : Int) ≤ a2 ∧ a2 ≤ (3 : Int))) = 0) (o_6 : (tOK (s.2 6) ∧ aOK (s.2 6) (s.2 7))) (f_7 : Int → Int) (f_8 : Int → Int) (f_9 : Int → Int) (f_10 : Int → Int) (f_11 : Int → Int) (f_12 : Int → Int) (f_13 : Int → Int) (k_14 : Int) (q_15 : (GO (s.2 6) (s.2 7) f_9 f_10 f_11 f_12)) (c_16 : ¬ a2 = 0) (c_17 : ¬ a2 = 1) (c_18 : a2 = 2) (o_22 : (0 ≤ a1 ∧ a1 < 10000)) : (f_11 a1) = (rEnds (s.2 6) (s.2 7) a1 a2) := by
  obtain ⟨ht, ha⟩ := hp
  have hN := tOK_N ht
  have hg := nx_rng (s.2 6) (s.2 7)
  (try simp only [bI_0, bI_n, Classical.not_not] at *)
  (try have hq := ‹GO (s.2 6) (s.2 7) _ _ _ _›)
  (try have hq := hI.2.1)
  (try have hx := GO_at hq (x := a1) (by omega) (by omega))
  (try unfold lex3)
  (try simp only [bI_0, bI_n, Classical.not_not] at *)
  (try simp (disch := omega) only [i32_id] at *)
  first | done | omega | ((repeat' (with_reducible apply And.intro)) <;> first | assumption | rfl | omega | (unfold rEnds; rw [if_neg (by omega)]) | (exact NXO_rng (GO_n hq)) | (rw [hx.2.1.1, hx.2.2.2.1]; omega) | (unfold rEnds; rw [if_pos (by omega), if_pos (by omega)]; exact hx.1.2.1) | (unfold rEnds; rw [if_pos (by omega), if_neg (by omega), if_pos (by omega), hx.2.1.1]; exact hx.2.2.2.1) | (unfold rEnds; rw [if_pos (by omega), if_neg (by omega), if_neg (by omega), if_pos (by omega)]; exact hx.2.1.1) | (unfold rEnds; rw [if_pos (by omega), if_neg (by omega), if_neg (by omega), if_neg (by omega), NXO_it (GO_n hq) (by omega) (by omega), hx.1.2.1]) | grind [upI])
theorem vX3_ends_2_9 (s : MS) (a1 : Int) (a2 : Int) (hp : tOK (s.2 6) ∧ aOK (s.2 6) (s.2 7)) (o_1 : (tOK (s.2 6))) (c_3 : ¬ (bI (0 ≤ a1 ∧ a1 < (s.2 6) 2)) = 0) (c_5 : ¬ (bI ((0 : Int) ≤ a2 ∧ a2 ≤ (3 : Int))) = 0) (o_6 : (tOK (s.2 6) ∧ aOK (s.2 6) (s.2 7))) (f_7 : Int → Int) (f_8 : Int → Int) (f_9 : Int → Int) (f_10 : Int → Int) (f_11 : Int → Int) (f_12 : Int → Int) (f_13 : Int → Int) (k_14 : Int) (q_15 : (GO (s.2 6) (s.2 7) f_9 f_10 f_11 f_12)) (c_16 : ¬ a2 = 0) (c_17 : a2 = 1) : (0 ≤ a1 ∧ a1 < 10000) := by
  obtain ⟨ht, ha⟩ := hp
  have hN := tOK_N ht
  have hg := nx_rng (s.2 6) (s.2 7)
  (try simp only [bI_0, bI_n, Classical.not_not] at *)
  (try have hq := ‹GO (s.2 6) (s.2 7) _ _ _ _›)
  (try have hq := hI.2.1)
  (try have hx := GO_at hq (x := a1) (by omega) (by omega))
  (try unfold lex3)
  (try simp only [bI_0, bI_n, Classical.not_not] at *)
  (try simp (disch := omega) only [i32_id] at *)
  first | done | omega | ((repeat' (with_reducible apply And.intro)) <;> first | assumption | rfl | omega | (unfold rEnds; rw [if_neg (by omega)]) | (exact NXO_rng (GO_n hq)) | (rw [hx.2.1.1, hx.2.2.2.1]; omega) | (unfold rEnds; rw [if_pos (by omega), if_pos (by omega)]; exact hx.1.2.1) | (unfold rEnds; rw [if_pos (by omega), if_neg (by omega), if_pos (by omega), hx.2.1.1]; exact hx.2.2.2.1) | (unfold rEnds; rw [if_pos (by omega), if_neg (by omega), if_neg (by omega), if_pos (by omega)]; exact hx.2.1.1) | (unfold rEnds; rw [if_pos (by omega), if_neg (by omega), if_neg (by omega), if_neg (by omega), NXO_it (GO_n hq) (by omega) (by omega), hx.1.2.1]) | grind [upI])
theorem vX3_ends_2_10 (s : MS) (a1 : Int) (a2 : Int) (hp : tOK (s.2 6) ∧ aOK (s.2 6) (s.2 7)) (o_1 : (tOK (s.2 6))) (c_3 : ¬ (bI (0 ≤ a1 ∧ a1 < (s.2 6) 2)) = 0) (c_5 : ¬ (bI ((0 : Int) ≤ a2 ∧ a2 ≤ (3 : Int))) = 0) (o_6 : (tOK (s.2 6) ∧ aOK (s.2 6) (s.2 7))) (f_7 : Int → Int) (f_8 : Int → Int) (f_9 : Int → Int) (f_10 : Int → Int) (f_11 : Int → Int) (f_12 : Int → Int) (f_13 : Int → Int) (k_14 : Int) (q_15 : (GO (s.2 6) (s.2 7) f_9 f_10 f_11 f_12)) (c_16 : ¬ a2 = 0) (c_17 : a2 = 1) (o_23 : (0 ≤ a1 ∧ a1 < 10000)) : (0 ≤ (f_11 a1) ∧ (f_11 a1) < 10000) := by
  obtain ⟨ht, ha⟩ := hp
  have hN := tOK_N ht
  have hg := nx_rng (s.2 6) (s.2 7)
  (try simp only [bI_0, bI_n, Classical.not_not] at *)
  (try have hq := ‹GO (s.2 6) (s.2 7) _ _ _ _›)
  (try have hq := hI.2.1)
  (try have hx := GO_at hq (x := a1) (by omega) (by omega))
  (try unfold lex3)
  (try simp only [bI_0, bI_n, Classical.not_not] at *)
  (try simp (disch := omega) only [i32_id] at *)
  first | done | omega | ((repeat' (with_reducible apply And.intro)) <;> first | assumption | rfl | omega | (unfold rEnds; rw [if_neg (by omega)]) | (exact NXO_rng (GO_n hq)) | (rw [hx.2.1.1, hx.2.2.2.1]; omega) | (unfold rEnds; rw [if_pos (by omega), if_pos (by omega)]; exact hx.1.2.1) | (unfold rEnds; rw [if_pos (by omega), if_neg (by omega), if_pos (by omega), hx.2.1.1]; exact hx.2.2.2.1) | (unfold rEnds; rw [if_pos (by omega), if_neg (by omega), if_neg (by omega), if_pos (by omega)]; exact hx.2.1.1) | (unfold rEnds; rw [if_pos (by omega), if_neg (by omega), if_neg (by omega), if_neg (by omega), NXO_it (GO_n hq) (by omega) (by omega), hx.1.2.1]) | grind [upI])
theorem vX3_ends_2_11 (s : MS) (a1 : Int) (a2 : Int) (hp : tOK (s.2 6) ∧ aOK (s.2 6) (s.2 7)) (o_1 : (tOK (s.2 6))) (c_3 : ¬ (bI (0 ≤ a1 ∧ a1 < (s.2 6) 2)) = 0) (c_5 : ¬ (bI ((0 : Int) ≤ a2 ∧ a2 ≤ (3 : Int))) = 0) (o_6 : (tOK (s.2 6) ∧ aOK (s.2 6) (s.2 7))) (f_7 : Int → Int) (f_8 : Int → Int) (f_9 : Int → Int) (f_10 : Int → Int) (f_11 : Int → Int) (f_12 : Int → Int) (f_13 : Int → Int) (k_14 : Int) (q_15 : (GO (s.2 6) (s.2 7) f_9 f_10 f_11 f_12)) (c_16 : ¬ a2 = 0) (c_17 : a2 = 1) (o_23 : (0 ≤ a1 ∧ a1 < 10000)) (o_24 : (0 ≤ (f_11 a1) ∧ (f_11 a1) < 10000)) : (f_12 (f_11 a1)) = (rEnds (s.2 6) (s.2 7) a1 a2) := by
  obtain ⟨ht, ha⟩ := hp
  have hN := tOK_N ht
  have hg := nx_rng (s.2 6) (s.2 7)
  (try simp only [bI_0, bI_n, Classical.not_not] at *)
  (try have hq := ‹GO (s.2 6) (s.2 7) _ _ _ _›)
  (try have hq := hI.2.1)
  (try have hx := GO_at hq (x := a1) (by omega) (by omega))
  (try unfold lex3)
  (try simp only [bI_0, bI_n, Classical.not_not] at *)
  (try simp (disch := omega) only [i32_id] at *)
  first | done | omega | ((repeat' (with_reducible apply And.intro)) <;> first | assumption | rfl | omega | (unfold rEnds; rw [if_neg (by omega)]) | (exact NXO_rng (GO_n hq)) | (rw [hx.2.1.1, hx.2.2.2.1]; omega) | (unfold rEnds; rw [if_pos (by omega), if_pos (by omega)]; exact hx.1.2.1) | (unfold rEnds; rw [if_pos (by omega), if_neg (by omega), if_pos (by omega), hx.2.1.1]; exact hx.2.2.2.1) | (unfold rEnds; rw [if_pos (by omega), if_neg (by omega), if_neg (by omega), if_pos (by omega)]; exact hx.2.1.1) | (unfold rEnds; rw [if_pos (by omega), if_neg (by omega), if_neg (by omega), if_neg (by omega), NXO_it (GO_n hq) (by omega) (by omega), hx.1.2.1]) | grind [upI])
theorem vX3_ends_2_12 (s : MS) (a1 : Int) (a2 : Int) (hp : tOK (s.2 6) ∧ aOK (s.2 6) (s.2 7)) (o_1 : (tOK (s.2 6))) (c_3 : ¬ (bI (0 ≤ a1 ∧ a1 < (s.2 6) 2)) = 0) (c_5 : ¬ (bI ((0 : Int) ≤ a2 ∧ a2 ≤ (3 : Int))) = 0) (o_6 : (tOK (s.2 6) ∧ aOK (s.2 6) (s.2 7))) (f_7 : Int → Int) (f_8 : Int → Int) (f_9 : Int → Int) (f_10 : Int → Int) (f_11 : Int → Int) (f_12 : Int → Int) (f_13 : Int → Int) (k_14 : Int) (q_15 : (GO (s.2 6) (s.2 7) f_9 f_10 f_11 f_12)) (c_16 : a2 = 0) : (0 ≤ a1 ∧ a1 < 10000) := by
  obtain ⟨ht, ha⟩ := hp
  have hN := tOK_N ht
  have hg := nx_rng (s.2 6) (s.2 7)
  (try simp only [bI_0, bI_n, Classical.not_not] at *)
  (try have hq := ‹GO (s.2 6) (s.2 7) _ _ _ _›)
  (try have hq := hI.2.1)
  (try have hx := GO_at hq (x := a1) (by omega) (by omega))
  (try unfold lex3)
  (try simp only [bI_0, bI_n, Classical.not_not] at *)
  (try simp (disch := omega) only [i32_id] at *)
  first | done | omega | ((repeat' (with_reducible apply And.intro)) <;> first | assumption | rfl | omega | (unfold rEnds; rw [if_neg (by omega)]) | (exact NXO_rng (GO_n hq)) | (rw [hx.2.1.1, hx.2.2.2.1]; omega) | (unfold rEnds; rw [if_pos (by omega), if_pos (by omega)]; exact hx.1.2.1) | (unfold rEnds; rw [if_pos (by omega), if_neg (by omega), if_pos (by omega), hx.2.1.1]; exact hx.2.2.2.1) | (unfold rEnds; rw [if_pos (by omega), if_neg (by omega), if_neg (by omega), if_pos (by omega)]; exact hx.2.1.1) | (unfold rEnds; rw [if_pos (by omega), if_neg (by omega), if_neg (by omega), if_neg (by omega), NXO_it (GO_n hq) (by omega) (by omega), hx.1.2.1]) | grind [upI])
theorem vX3_ends_2_13 (s : MS) (a1 : Int) (a2 : Int) (hp : tOK (s.2 6) ∧ aOK (s.2 6) (s.2 7)) (o_1 : (tOK (s.2 6))) (c_3 : ¬ (bI (0 ≤ a1 ∧ a1 < (s.2 6) 2)) = 0) (c_5 : ¬ (bI ((0 : Int) ≤ a2 ∧ a2 ≤ (3 : Int))) = 0) (o_6 : (tOK (s.2 6) ∧ aOK (s.2 6) (s.2 7))) (f_7 : Int → Int) (f_8 : Int → Int) (f_9 : Int → Int) (f_10 : Int → Int) (f_11 : Int → Int) (f_12 : Int → Int) (f_13 : Int → Int) (k_14 : Int) (q_15 : (GO (s.2 6) (s.2 7) f_9 f_10 f_11 f_12)) (c_16 : a2 = 0) (o_25 : (0 ≤ a1 ∧ a1 < 10000)) : (f_10 a1) = (rEnds (s.2 6) (s.2 7) a1 a2) := by
  obtain ⟨ht, ha⟩ := hp
  have hN := tOK_N ht
  have hg := nx_rng (s.2 6) (s.2 7)
  (try simp only [bI_0, bI_n, Classical.not_not] at *)
  (try have hq := ‹GO (s.2 6) (s.2 7) _ _ _ _›)
  (try have hq := hI.2.1)
  (try have hx := GO_at hq (x := a1) (by omega) (by omega))
  (try unfold lex3)
  (try simp only [bI_0, bI_n, Classical.not_not] at *)
  (try simp (disch := omega) only [i32_id] at *)
  first | done | omega | ((repeat' (with_reducible apply And.intro)) <;> first | assumption | rfl | omega | (unfold rEnds; rw [if_neg (by omega)]) | (exact NXO_rng (GO_n hq)) | (rw [hx.2.1.1, hx.2.2.2.1]; omega) | (unfold rEnds; rw [if_pos (by omega), if_pos (by omega)]; exact hx.1.2.1) | (unfold rEnds; rw [if_pos (by omega), if_neg (by omega), if_pos (by omega), hx.2.1.1]; exact hx.2.2.2.1) | (unfold rEnds; rw [if_pos (by omega), if_neg (by omega), if_neg (by omega), if_pos (by omega)]; exact hx.2.1.1) | (unfold rEnds; rw [if_pos (by omega), if_neg (by omega), if_neg (by omega), if_neg (by omega), NXO_it (GO_n hq) (by omega) (by omega), hx.1.2.1]) | grind [upI])
theorem vX3_ends_2_14 (s : MS) (a1 : Int) (a2 : Int) (hp : tOK (s.2 6) ∧ aOK (s.2 6) (s.2 7)) (o_1 : (tOK (s.2 6))) (c_3 : ¬ (bI (0 ≤ a1 ∧ a1 < (s.2 6) 2)) = 0) (c_5 : (bI ((0 : Int) ≤ a2 ∧ a2 ≤ (3 : Int))) = 0) : (-2) = (rEnds (s.2 6) (s.2 7) a1 a2) := by
  obtain ⟨ht, ha⟩ := hp
  have hN := tOK_N ht
  have hg := nx_rng (s.2 6) (s.2 7)
  (try simp only [bI_0, bI_n, Classical.not_not] at *)
  (try have hq := ‹GO (s.2 6) (s.2 7) _ _ _ _›)
  (try have hq := hI.2.1)
  (try have hx := GO_at hq (x := a1) (by omega) (by omega))
  (try unfold lex3)
  (try simp only [bI_0, bI_n, Classical.not_not] at *)
  (try simp (disch := omega) only [i32_id] at *)
  first | done | omega | ((repeat' (with_reducible apply And.intro)) <;> first | assumption | rfl | omega | (unfold rEnds; rw [if_neg (by omega)]) | (exact NXO_rng (GO_n hq)) | (rw [hx.2.1.1, hx.2.2.2.1]; omega) | (unfold rEnds; rw [if_pos (by omega), if_pos (by omega)]; exact hx.1.2.1) | (unfold rEnds; rw [if_pos (by omega), if_neg (by omega), if_pos (by omega), hx.2.1.1]; exact hx.2.2.2.1) | (unfold rEnds; rw [if_pos (by omega), if_neg (by omega), if_neg (by omega), if_pos (by omega)]; exact hx.2.1.1) | (unfold rEnds; rw [if_pos (by omega), if_neg (by omega), if_neg (by omega), if_neg (by omega), NXO_it (GO_n hq) (by omega) (by omega), hx.1.2.1]) | grind [upI])
theorem ctX3_ends_2 (b : AH) (s : MS) (a1 : Int) (a2 : Int) (hp : tOK (s.2 6) ∧ aOK (s.2 6) (s.2 7)) : MC mX3_ends_2 9 b s [vI a1, vI a2] (QX3_ends_2 s a1 a2) := by
  refine MC.of (by decide) rfl (Nat.le_of_ble_eq_true rfl) (JW.steq (s2 := sS (sS (sS (sS (sA (sA (sA (sA (sA (sA (sA (sA (sA s 11 (s.2 11)) 12 (s.2 12)) 13 (s.2 13)) 14 (s.2 14)) 15 (s.2 15)) 16 (s.2 16)) 17 (s.2 17)) 18 (s.2 18)) 19 (s.2 19)) 0 (s.1 0)) 25 (s.1 25)) 33 (s.1 33)) 34 (s.1 34)) (by simp only [sA_id, sS_id]) ?_)
  refine bX3_ends_2_0 b s a1 a2 (s.2 11) (s.2 12) (s.2 13) (s.2 14) (s.2 15) (s.2 16) (s.2 17) (s.2 18) (s.2 19) (s.1 0) (s.1 25) (s.1 33) (s.1 34) ?_
  have o_1 : (tOK (s.2 6)) := (vX3_ends_2_1 s a1 a2 hp)
  refine ⟨o_1, ?_⟩
  refine ⟨fun c_3 => ?_, fun c_3 => ?_⟩
  · exact ⟨(s.2 11), (s.2 12), (s.2 13), (s.2 14), (s.2 15), (s.2 16), (s.2 17), (s.2 18), (s.2 19), (s.1 25), (s.1 33), (s.1 34), (rI_c (vX3_ends_2_2 s a1 a2 hp o_1 c_3)), rfl⟩
  · refine ⟨fun c_5 => ?_, fun c_5 => ?_⟩
    · have o_6 : (tOK (s.2 6) ∧ aOK (s.2 6) (s.2 7)) := (vX3_ends_2_3 s a1 a2 hp o_1 c_3 c_5)
      refine ⟨o_6, ?_⟩
      intro f_7 f_8 f_9 f_10 f_11 f_12 f_13 k_14 q_15
      refine ⟨fun c_16 => ?_, fun c_16 => ?_⟩
      · refine ⟨fun c_17 => ?_, fun c_17 => ?_⟩
        · refine ⟨fun c_18 => ?_, fun c_18 => ?_⟩
          · have o_19 : (0 ≤ a1 ∧ a1 < 10000) := (vX3_ends_2_4 s a1 a2 hp o_1 c_3 c_5 o_6 f_7 f_8 f_9 f_10 f_11 f_12 f_13 k_14 q_15 c_16 c_17 c_18)
            refine ⟨o_19, ?_⟩
            have o_20 : (rng f_9 ((s.2 6) 2) ∧ (s.2 6) 2 ≤ 10000 ∧ 0 ≤ a1 ∧ a1 < (s.2 6) 2 ∧ 0 ≤ (f_10 a1) ∧ (f_10 a1) ≤ 1000000000) := (vX3_ends_2_5 s a1 a2 hp o_1 c_3 c_5 o_6 f_7 f_8 f_9 f_10 f_11 f_12 f_13 k_14 q_15 c_16 c_17 c_18 o_19)
            refine ⟨o_20, ?_⟩
            exact ⟨f_7, f_8, f_9, f_10, f_11, f_12, f_13, (s.2 18), (s.2 19), k_14, (s.1 33), (s.1 34), (rI_c (vX3_ends_2_6 s a1 a2 hp o_1 c_3 c_5 o_6 f_7 f_8 f_9 f_10 f_11 f_12 f_13 k_14 q_15 c_16 c_17 c_18 o_19 o_20)), rfl⟩
          · have o_22 : (0 ≤ a1 ∧ a1 < 10000) := (vX3_ends_2_7 s a1 a2 hp o_1 c_3 c_5 o_6 f_7 f_8 f_9 f_10 f_11 f_12 f_13 k_14 q_15 c_16 c_17 c_18)
            refine ⟨o_22, ?_⟩
            exact ⟨f_7, f_8, f_9, f_10, f_11, f_12, f_13, (s.2 18), (s.2 19), k_14, (s.1 33), (s.1 34), (rI_c (vX3_ends_2_8 s a1 a2 hp o_1 c_3 c_5 o_6 f_7 f_8 f_9 f_10 f_11 f_12 f_13 k_14 q_15 c_16 c_17 c_18 o_22)), rfl⟩
        · have o_23 : (0 ≤ a1 ∧ a1 < 10000) := (vX3_ends_2_9 s a1 a2 hp o_1 c_3 c_5 o_6 f_7 f_8 f_9 f_10 f_11 f_12 f_13 k_14 q_15 c_16 c_17)
          refine ⟨o_23, ?_⟩
          have o_24 : (0 ≤ (f_11 a1) ∧ (f_11 a1) < 10000) := (vX3_ends_2_10 s a1 a2 hp o_1 c_3 c_5 o_6 f_7 f_8 f_9 f_10 f_11 f_12 f_13 k_14 q_15 c_16 c_17 o_23)
          refine ⟨o_24, ?_⟩
          exact ⟨f_7, f_8, f_9, f_10, f_11, f_12, f_13, (s.2 18), (s.2 19), k_14, (s.1 33), (s.1 34), (rI_c (vX3_ends_2_11 s a1 a2 hp o_1 c_3 c_5 o_6 f_7 f_8 f_9 f_10 f_11 f_12 f_13 k_14 q_15 c_16 c_17 o_23 o_24)), rfl⟩
      · have o_25 : (0 ≤ a1 ∧ a1 < 10000) := (vX3_ends_2_12 s a1 a2 hp o_1 c_3 c_5 o_6 f_7 f_8 f_9 f_10 f_11 f_12 f_13 k_14 q_15 c_16)
        refine ⟨o_25, ?_⟩
        exact ⟨f_7, f_8, f_9, f_10, f_11, f_12, f_13, (s.2 18), (s.2 19), k_14, (s.1 33), (s.1 34), (rI_c (vX3_ends_2_13 s a1 a2 hp o_1 c_3 c_5 o_6 f_7 f_8 f_9 f_10 f_11 f_12 f_13 k_14 q_15 c_16 o_25)), rfl⟩
    · exact ⟨(s.2 11), (s.2 12), (s.2 13), (s.2 14), (s.2 15), (s.2 16), (s.2 17), (s.2 18), (s.2 19), (s.1 25), (s.1 33), (s.1 34), (rI_c (vX3_ends_2_14 s a1 a2 hp o_1 c_3 c_5)), rfl⟩
def HX3_isHome_0 (Q : Option AV → MS → Prop) (b : AH) (s : MS) (x1 : Int) : Prop := MW mX3_isHome 1 Q b 0 [(0, vR 351), (1, vI x1)] [] s
theorem bX3_isHome_0 {Q : Option AV → MS → Prop} (b : AH) (s : MS) (x1 : Int) (K : (0 ≤ x1 ∧ x1 < 10000) ∧ ((¬ (s.2 15 x1) = x1 → Q (some (vI 0)) s) ∧ ((s.2 15 x1) = x1 → Q (some (vI 1)) s))) : HX3_isHome_0 Q b s x1 := by
  refine JW.aload_n dX3_isHome_0 rfl ?_
  refine JW.mget (v := vR 367) dX3_isHome_1 fX3_62 rfl ?_
  refine JW.iload_n dX3_isHome_4 rfl ?_
  obtain ⟨o_1, K⟩ := K
  refine JW.mald 15 (x := (s.2 15 x1)) dX3_isHome_5 (Nat.le_of_ble_eq_true rfl) rfl o_1.1 o_1.2 rfl ?_
  refine JW.iload_n dX3_isHome_6 rfl ?_
  refine JW.icmp_ne (tgt := 14) dX3_isHome_7 rfl (fun c_2 => ?_) (fun c_2 => ?_)
  · have K := K.1 c_2
    refine JW.iconst dX3_isHome_14 rfl ?_
    exact JW.zreturn dX3_isHome_15 rfl (Or.inl rfl) ⟨_, rfl, K⟩
  · have K := K.2 c_2
    refine JW.iconst dX3_isHome_10 rfl ?_
    refine JW.goto (tgt := 15) dX3_isHome_11 rfl ?_
    exact JW.zreturn dX3_isHome_15 rfl (Or.inr rfl) ⟨_, rfl, K⟩
def QX3_isHome (s : MS) (a1 : Int) : Option AV → MS → Prop := fun v s' => v = some (vI (bI ((s.2 15) a1 = a1))) ∧ s' = s
theorem vX3_isHome_1 (s : MS) (a1 : Int) (hp : 0 ≤ a1 ∧ a1 < 10000) : (0 ≤ a1 ∧ a1 < 10000) := by
  (try unfold lex3)
  (try simp only [bI_0, bI_n, Classical.not_not] at *)
  (try simp (disch := omega) only [i32_id] at *)
  first | done | omega | ((repeat' (with_reducible apply And.intro)) <;> first | assumption | rfl | omega | (rw [bI_t (by assumption)]) | (rw [bI_f (by assumption)]) | grind [upI])
theorem vX3_isHome_2 (s : MS) (a1 : Int) (hp : 0 ≤ a1 ∧ a1 < 10000) (o_1 : (0 ≤ a1 ∧ a1 < 10000)) (c_2 : ¬ (s.2 15 a1) = a1) : 0 = (bI ((s.2 15) a1 = a1)) := by
  (try unfold lex3)
  (try simp only [bI_0, bI_n, Classical.not_not] at *)
  (try simp (disch := omega) only [i32_id] at *)
  first | done | omega | ((repeat' (with_reducible apply And.intro)) <;> first | assumption | rfl | omega | (rw [bI_t (by assumption)]) | (rw [bI_f (by assumption)]) | grind [upI])
theorem vX3_isHome_3 (s : MS) (a1 : Int) (hp : 0 ≤ a1 ∧ a1 < 10000) (o_1 : (0 ≤ a1 ∧ a1 < 10000)) (c_2 : (s.2 15 a1) = a1) : 1 = (bI ((s.2 15) a1 = a1)) := by
  (try unfold lex3)
  (try simp only [bI_0, bI_n, Classical.not_not] at *)
  (try simp (disch := omega) only [i32_id] at *)
  first | done | omega | ((repeat' (with_reducible apply And.intro)) <;> first | assumption | rfl | omega | (rw [bI_t (by assumption)]) | (rw [bI_f (by assumption)]) | grind [upI])
theorem ctX3_isHome (b : AH) (s : MS) (a1 : Int) (hp : 0 ≤ a1 ∧ a1 < 10000) : MC mX3_isHome 1 b s [vI a1] (QX3_isHome s a1) := by
  refine MC.of (by decide) rfl (Nat.le_of_ble_eq_true rfl) ?_
  refine bX3_isHome_0 b s a1 ?_
  have o_1 : (0 ≤ a1 ∧ a1 < 10000) := (vX3_isHome_1 s a1 hp)
  refine ⟨o_1, ?_⟩
  refine ⟨fun c_2 => ?_, fun c_2 => ?_⟩
  · exact ⟨(rI_c (vX3_isHome_2 s a1 hp o_1 c_2)), rfl⟩
  · exact ⟨(rI_c (vX3_isHome_3 s a1 hp o_1 c_2)), rfl⟩
def HX3_manyRounds_0 (Q : Option AV → MS → Prop) (b : AH) (s : MS) : Prop := MW mX3_manyRounds 2 Q b 0 [(0, vR 351)] [] s
def HX3_manyRounds_4 (Q : Option AV → MS → Prop) (b : AH) (s : MS) (x1 : Int) (x2 : Int) : Prop := MW mX3_manyRounds 2 Q b 4 [(0, vR 351), (1, vI x1), (2, vI x2)] [] s
theorem bX3_manyRounds_0 {Q : Option AV → MS → Prop} (b : AH) (s : MS) (K : HX3_manyRounds_4 Q b s 0 0) : HX3_manyRounds_0 Q b s  := by
  refine JW.iconst dX3_manyRounds_0 rfl ?_
  refine JW.istore_n (ls' := [(0, vR 351), (1, vI 0)]) dX3_manyRounds_1 (Nat.le_of_ble_eq_true rfl) rfl ?_
  refine JW.iconst dX3_manyRounds_2 rfl ?_
  refine JW.istore_n (ls' := [(0, vR 351), (1, vI 0), (2, vI 0)]) dX3_manyRounds_3 (Nat.le_of_ble_eq_true rfl) rfl ?_
  exact JW.pick [0, 1, 2] rfl K
theorem bX3_manyRounds_4 {Q : Option AV → MS → Prop} (b : AH) (s : MS) (x1 : Int) (x2 : Int) (K : ((s.2 6 2) ≤ x2 → Q (some (vI x1)) s) ∧ (¬ (s.2 6 2) ≤ x2 → (0 ≤ x2 ∧ x2 < 10000) ∧ (((bI ((s.2 15) x2 = x2)) = 0 → HX3_manyRounds_4 Q b s (i32 (x1 + 0)) (i32 (x2 + 1))) ∧ (¬ (bI ((s.2 15) x2 = x2)) = 0 → HX3_manyRounds_4 Q b s (i32 (x1 + 1)) (i32 (x2 + 1)))))) : HX3_manyRounds_4 Q b s x1 x2 := by
  refine JW.iload_n dX3_manyRounds_4 rfl ?_
  refine JW.aload_n dX3_manyRounds_5 rfl ?_
  refine JW.mget (v := vR 358) dX3_manyRounds_6 fX3_34 rfl ?_
  refine JW.iconst dX3_manyRounds_9 rfl ?_
  refine JW.mald 6 (x := (s.2 6 2)) dX3_manyRounds_10 (Nat.le_of_ble_eq_true rfl) rfl (by decide) (by decide) rfl ?_
  refine JW.icmp_ge (tgt := 36) dX3_manyRounds_11 rfl (fun c_1 => ?_) (fun c_1 => ?_)
  · have K := K.1 c_1
    refine JW.iload_n dX3_manyRounds_36 rfl ?_
    exact JW.ireturn dX3_manyRounds_37 rfl rfl ⟨_, rfl, K⟩
  · have K := K.2 c_1
    refine JW.iload_n dX3_manyRounds_14 rfl ?_
    refine JW.aload_n dX3_manyRounds_15 rfl ?_
    refine JW.iload_n dX3_manyRounds_16 rfl ?_
    obtain ⟨o_2, K⟩ := K
    refine JW.mcall (As := [vI x2]) dX3_manyRounds_17 vX3_isHome rfl q1899 (ctX3_isHome b s x2 o_2) (Nat.le_of_ble_eq_true rfl) rfl (Nat.le_of_ble_eq_true rfl) ?_
    rintro _ _ ⟨rfl, eq_3⟩
    refine JW.steq (s2 := s) eq_3 ?_
    refine JW.if_eq (tgt := 27) dX3_manyRounds_20 rfl (fun c_4 => ?_) (fun c_4 => ?_)
    · have K := K.1 c_4
      refine JW.iconst dX3_manyRounds_27 rfl ?_
      refine JW.iadd dX3_manyRounds_28 ?_
      refine JW.istore_n (ls' := [(0, vR 351), (1, vI (i32 (x1 + 0))), (2, vI x2)]) dX3_manyRounds_29 (Nat.le_of_ble_eq_true rfl) rfl ?_
      refine JW.iinc (ls' := [(0, vR 351), (1, vI (i32 (x1 + 0))), (2, vI (i32 (x2 + 1)))]) dX3_manyRounds_30 (Nat.le_of_ble_eq_true rfl) rfl rfl ?_
      refine JW.goto (tgt := 4) dX3_manyRounds_33 rfl ?_
      exact JW.pick [0, 1, 2] rfl K
    · have K := K.2 c_4
      refine JW.iconst dX3_manyRounds_23 rfl ?_
      refine JW.goto (tgt := 28) dX3_manyRounds_24 rfl ?_
      refine JW.iadd dX3_manyRounds_28 ?_
      refine JW.istore_n (ls' := [(0, vR 351), (1, vI (i32 (x1 + 1))), (2, vI x2)]) dX3_manyRounds_29 (Nat.le_of_ble_eq_true rfl) rfl ?_
      refine JW.iinc (ls' := [(0, vR 351), (1, vI (i32 (x1 + 1))), (2, vI (i32 (x2 + 1)))]) dX3_manyRounds_30 (Nat.le_of_ble_eq_true rfl) rfl rfl ?_
      refine JW.goto (tgt := 4) dX3_manyRounds_33 rfl ?_
      exact JW.pick [0, 1, 2] rfl K
def QX3_manyRounds (s : MS) : Option AV → MS → Prop := fun v s' => v = some (vI (many (fun x => (s.2 15) x = x) ((s.2 6) 2).toNat)) ∧ s' = s
theorem vX3_manyRounds_1 (s : MS) (hp : tOK (s.2 6)) (x1 : Int) (x2 : Int) (hI : (0 ≤ x2 ∧ x2 ≤ s.2 6 2) ∧ x1 = many (fun x => s.2 15 x = x) x2.toNat) (c_1 : (s.2 6 2) ≤ x2) : x1 = (many (fun x => (s.2 15) x = x) ((s.2 6) 2).toNat) := by
  have hN := tOK_N hp
  (try have hb := many_b (fun x => s.2 15 x = x) x2.toNat)
  (try unfold lex3)
  (try simp only [bI_0, bI_n, Classical.not_not] at *)
  (try simp (disch := omega) only [i32_id] at *)
  first | done | omega | ((repeat' (with_reducible apply And.intro)) <;> first | assumption | rfl | omega | (rw [hI.2, show x2 = s.2 6 2 by omega]) | (have h9 := many_t (p := fun x => s.2 15 x = x) (k := x2) (by omega) (by assumption); omega) | (have h9 := many_f (p := fun x => s.2 15 x = x) (k := x2) (by omega) (by assumption); omega) | (have h9 : many (fun x => s.2 15 x = x) (0 : Int).toNat = 0 := rfl; omega) | grind [upI])
theorem vX3_manyRounds_2 (s : MS) (hp : tOK (s.2 6)) (x1 : Int) (x2 : Int) (hI : (0 ≤ x2 ∧ x2 ≤ s.2 6 2) ∧ x1 = many (fun x => s.2 15 x = x) x2.toNat) (c_1 : ¬ (s.2 6 2) ≤ x2) : (0 ≤ x2 ∧ x2 < 10000) := by
  have hN := tOK_N hp
  (try have hb := many_b (fun x => s.2 15 x = x) x2.toNat)
  (try unfold lex3)
  (try simp only [bI_0, bI_n, Classical.not_not] at *)
  (try simp (disch := omega) only [i32_id] at *)
  first | done | omega | ((repeat' (with_reducible apply And.intro)) <;> first | assumption | rfl | omega | (rw [hI.2, show x2 = s.2 6 2 by omega]) | (have h9 := many_t (p := fun x => s.2 15 x = x) (k := x2) (by omega) (by assumption); omega) | (have h9 := many_f (p := fun x => s.2 15 x = x) (k := x2) (by omega) (by assumption); omega) | (have h9 : many (fun x => s.2 15 x = x) (0 : Int).toNat = 0 := rfl; omega) | grind [upI])
theorem vX3_manyRounds_3 (s : MS) (hp : tOK (s.2 6)) (x1 : Int) (x2 : Int) (hI : (0 ≤ x2 ∧ x2 ≤ s.2 6 2) ∧ x1 = many (fun x => s.2 15 x = x) x2.toNat) (c_1 : ¬ (s.2 6 2) ≤ x2) (o_2 : (0 ≤ x2 ∧ x2 < 10000)) (c_4 : (bI ((s.2 15) x2 = x2)) = 0) : (0 ≤ (i32 (x2 + 1)) ∧ (i32 (x2 + 1)) ≤ s.2 6 2) ∧ (i32 (x1 + 0)) = many (fun x => s.2 15 x = x) (i32 (x2 + 1)).toNat := by
  have hN := tOK_N hp
  (try have hb := many_b (fun x => s.2 15 x = x) x2.toNat)
  (try unfold lex3)
  (try simp only [bI_0, bI_n, Classical.not_not] at *)
  (try simp (disch := omega) only [i32_id] at *)
  first | done | omega | ((repeat' (with_reducible apply And.intro)) <;> first | assumption | rfl | omega | (rw [hI.2, show x2 = s.2 6 2 by omega]) | (have h9 := many_t (p := fun x => s.2 15 x = x) (k := x2) (by omega) (by assumption); omega) | (have h9 := many_f (p := fun x => s.2 15 x = x) (k := x2) (by omega) (by assumption); omega) | (have h9 : many (fun x => s.2 15 x = x) (0 : Int).toNat = 0 := rfl; omega) | grind [upI])
theorem vX3_manyRounds_4 (s : MS) (hp : tOK (s.2 6)) (x1 : Int) (x2 : Int) (hI : (0 ≤ x2 ∧ x2 ≤ s.2 6 2) ∧ x1 = many (fun x => s.2 15 x = x) x2.toNat) (c_1 : ¬ (s.2 6 2) ≤ x2) (o_2 : (0 ≤ x2 ∧ x2 < 10000)) (c_4 : (bI ((s.2 15) x2 = x2)) = 0) : lex3 0 0 ((s.2 6 2 - (i32 (x2 + 1))).toNat) 0 0 ((s.2 6 2 - x2).toNat) := by
  have hN := tOK_N hp
  (try have hb := many_b (fun x => s.2 15 x = x) x2.toNat)
  (try unfold lex3)
  (try simp only [bI_0, bI_n, Classical.not_not] at *)
  (try simp (disch := omega) only [i32_id] at *)
  first | done | omega | ((repeat' (with_reducible apply And.intro)) <;> first | assumption | rfl | omega | (rw [hI.2, show x2 = s.2 6 2 by omega]) | (have h9 := many_t (p := fun x => s.2 15 x = x) (k := x2) (by omega) (by assumption); omega) | (have h9 := many_f (p := fun x => s.2 15 x = x) (k := x2) (by omega) (by assumption); omega) | (have h9 : many (fun x => s.2 15 x = x) (0 : Int).toNat = 0 := rfl; omega) | grind [upI])
theorem vX3_manyRounds_5 (s : MS) (hp : tOK (s.2 6)) (x1 : Int) (x2 : Int) (hI : (0 ≤ x2 ∧ x2 ≤ s.2 6 2) ∧ x1 = many (fun x => s.2 15 x = x) x2.toNat) (c_1 : ¬ (s.2 6 2) ≤ x2) (o_2 : (0 ≤ x2 ∧ x2 < 10000)) (c_4 : ¬ (bI ((s.2 15) x2 = x2)) = 0) : (0 ≤ (i32 (x2 + 1)) ∧ (i32 (x2 + 1)) ≤ s.2 6 2) ∧ (i32 (x1 + 1)) = many (fun x => s.2 15 x = x) (i32 (x2 + 1)).toNat := by
  have hN := tOK_N hp
  (try have hb := many_b (fun x => s.2 15 x = x) x2.toNat)
  (try unfold lex3)
  (try simp only [bI_0, bI_n, Classical.not_not] at *)
  (try simp (disch := omega) only [i32_id] at *)
  first | done | omega | ((repeat' (with_reducible apply And.intro)) <;> first | assumption | rfl | omega | (rw [hI.2, show x2 = s.2 6 2 by omega]) | (have h9 := many_t (p := fun x => s.2 15 x = x) (k := x2) (by omega) (by assumption); omega) | (have h9 := many_f (p := fun x => s.2 15 x = x) (k := x2) (by omega) (by assumption); omega) | (have h9 : many (fun x => s.2 15 x = x) (0 : Int).toNat = 0 := rfl; omega) | grind [upI])
theorem vX3_manyRounds_6 (s : MS) (hp : tOK (s.2 6)) (x1 : Int) (x2 : Int) (hI : (0 ≤ x2 ∧ x2 ≤ s.2 6 2) ∧ x1 = many (fun x => s.2 15 x = x) x2.toNat) (c_1 : ¬ (s.2 6 2) ≤ x2) (o_2 : (0 ≤ x2 ∧ x2 < 10000)) (c_4 : ¬ (bI ((s.2 15) x2 = x2)) = 0) : lex3 0 0 ((s.2 6 2 - (i32 (x2 + 1))).toNat) 0 0 ((s.2 6 2 - x2).toNat) := by
  have hN := tOK_N hp
  (try have hb := many_b (fun x => s.2 15 x = x) x2.toNat)
  (try unfold lex3)
  (try simp only [bI_0, bI_n, Classical.not_not] at *)
  (try simp (disch := omega) only [i32_id] at *)
  first | done | omega | ((repeat' (with_reducible apply And.intro)) <;> first | assumption | rfl | omega | (rw [hI.2, show x2 = s.2 6 2 by omega]) | (have h9 := many_t (p := fun x => s.2 15 x = x) (k := x2) (by omega) (by assumption); omega) | (have h9 := many_f (p := fun x => s.2 15 x = x) (k := x2) (by omega) (by assumption); omega) | (have h9 : many (fun x => s.2 15 x = x) (0 : Int).toNat = 0 := rfl; omega) | grind [upI])
theorem vX3_manyRounds_7 (s : MS) (hp : tOK (s.2 6)) : (0 ≤ (0 : Int) ∧ (0 : Int) ≤ s.2 6 2) ∧ (0 : Int) = many (fun x => s.2 15 x = x) (0 : Int).toNat := by
  have hN := tOK_N hp
  (try have hb := many_b (fun x => s.2 15 x = x) x2.toNat)
  (try unfold lex3)
  (try simp only [bI_0, bI_n, Classical.not_not] at *)
  (try simp (disch := omega) only [i32_id] at *)
  first | done | omega | ((repeat' (with_reducible apply And.intro)) <;> first | assumption | rfl | omega | (rw [hI.2, show x2 = s.2 6 2 by omega]) | (have h9 := many_t (p := fun x => s.2 15 x = x) (k := x2) (by omega) (by assumption); omega) | (have h9 := many_f (p := fun x => s.2 15 x = x) (k := x2) (by omega) (by assumption); omega) | (have h9 : many (fun x => s.2 15 x = x) (0 : Int).toNat = 0 := rfl; omega) | grind [upI])
theorem allX3_manyRounds (b : AH) (s : MS) (hp : tOK (s.2 6)) : ∀ m1 m2 m3 : Nat, (∀ (x1 : Int) (x2 : Int), m1 = 0 → m2 = 0 → m3 = ((s.2 6 2 - x2).toNat) → ((0 ≤ x2 ∧ x2 ≤ s.2 6 2) ∧ x1 = many (fun x => s.2 15 x = x) x2.toNat) → HX3_manyRounds_4 (QX3_manyRounds s) b s x1 x2) := by
  refine lex3_ind ?_
  intro m1 m2 m3 ih
  rintro x1 x2 rfl rfl rfl hI
  refine bX3_manyRounds_4 b s x1 x2 ?_
  refine ⟨fun c_1 => ?_, fun c_1 => ?_⟩
  · exact ⟨(rI_c (vX3_manyRounds_1 s hp x1 x2 hI c_1)), rfl⟩
  · have o_2 : (0 ≤ x2 ∧ x2 < 10000) := (vX3_manyRounds_2 s hp x1 x2 hI c_1)
    refine ⟨o_2, ?_⟩
    refine ⟨fun c_4 => ?_, fun c_4 => ?_⟩
    · exact (ih _ _ _ (vX3_manyRounds_4 s hp x1 x2 hI c_1 o_2 c_4)) (i32 (x1 + 0)) (i32 (x2 + 1)) rfl rfl rfl (vX3_manyRounds_3 s hp x1 x2 hI c_1 o_2 c_4)
    · exact (ih _ _ _ (vX3_manyRounds_6 s hp x1 x2 hI c_1 o_2 c_4)) (i32 (x1 + 1)) (i32 (x2 + 1)) rfl rfl rfl (vX3_manyRounds_5 s hp x1 x2 hI c_1 o_2 c_4)
theorem ctX3_manyRounds (b : AH) (s : MS) (hp : tOK (s.2 6)) : MC mX3_manyRounds 2 b s [] (QX3_manyRounds s) := by
  refine MC.of (by decide) rfl (Nat.le_of_ble_eq_true rfl) ?_
  refine bX3_manyRounds_0 b s  ?_
  exact (allX3_manyRounds b s hp _ _ _) 0 0 rfl rfl rfl (vX3_manyRounds_7 s hp)
def HX3_longest_0 (Q : Option AV → MS → Prop) (b : AH) (s : MS) : Prop := MW mX3_longest 2 Q b 0 [(0, vR 351)] [] s
def HX3_longest_4 (Q : Option AV → MS → Prop) (b : AH) (s : MS) (x1 : Int) (x2 : Int) : Prop := MW mX3_longest 2 Q b 4 [(0, vR 351), (1, vI x1), (2, vI x2)] [] s
theorem bX3_longest_0 {Q : Option AV → MS → Prop} (b : AH) (s : MS) (K : HX3_longest_4 Q b s 0 0) : HX3_longest_0 Q b s  := by
  refine JW.iconst dX3_longest_0 rfl ?_
  refine JW.istore_n (ls' := [(0, vR 351), (1, vI 0)]) dX3_longest_1 (Nat.le_of_ble_eq_true rfl) rfl ?_
  refine JW.iconst dX3_longest_2 rfl ?_
  refine JW.istore_n (ls' := [(0, vR 351), (1, vI 0), (2, vI 0)]) dX3_longest_3 (Nat.le_of_ble_eq_true rfl) rfl ?_
  exact JW.pick [0, 1, 2] rfl K
theorem bX3_longest_4 {Q : Option AV → MS → Prop} (b : AH) (s : MS) (x1 : Int) (x2 : Int) (K : ((s.2 6 2) ≤ x2 → Q (some (vI x1)) s) ∧ (¬ (s.2 6 2) ≤ x2 → (0 ≤ x2 ∧ x2 < 10000) ∧ (((bI ((s.2 15) x2 = x2)) = 0 → HX3_longest_4 Q b s x1 (i32 (x2 + 1))) ∧ (¬ (bI ((s.2 15) x2 = x2)) = 0 → (0 ≤ x1 ∧ x1 < 10000) ∧ (((bI ((s.2 15) x1 = x1)) = 0 → HX3_longest_4 Q b s x2 (i32 (x2 + 1))) ∧ (¬ (bI ((s.2 15) x1 = x1)) = 0 → ((s.2 16 x2) ≤ (s.2 16 x1) → HX3_longest_4 Q b s x1 (i32 (x2 + 1))) ∧ (¬ (s.2 16 x2) ≤ (s.2 16 x1) → HX3_longest_4 Q b s x2 (i32 (x2 + 1))))))))) : HX3_longest_4 Q b s x1 x2 := by
  refine JW.iload_n dX3_longest_4 rfl ?_
  refine JW.aload_n dX3_longest_5 rfl ?_
  refine JW.mget (v := vR 358) dX3_longest_6 fX3_34 rfl ?_
  refine JW.iconst dX3_longest_9 rfl ?_
  refine JW.mald 6 (x := (s.2 6 2)) dX3_longest_10 (Nat.le_of_ble_eq_true rfl) rfl (by decide) (by decide) rfl ?_
  refine JW.icmp_ge (tgt := 53) dX3_longest_11 rfl (fun c_1 => ?_) (fun c_1 => ?_)
  · have K := K.1 c_1
    refine JW.iload_n dX3_longest_53 rfl ?_
    exact JW.ireturn dX3_longest_54 rfl rfl ⟨_, rfl, K⟩
  · have K := K.2 c_1
    refine JW.aload_n dX3_longest_14 rfl ?_
    refine JW.iload_n dX3_longest_15 rfl ?_
    obtain ⟨o_2, K⟩ := K
    refine JW.mcall (As := [vI x2]) dX3_longest_16 vX3_isHome rfl q1899 (ctX3_isHome b s x2 o_2) (Nat.le_of_ble_eq_true rfl) rfl (Nat.le_of_ble_eq_true rfl) ?_
    rintro _ _ ⟨rfl, eq_3⟩
    refine JW.steq (s2 := s) eq_3 ?_
    refine JW.if_eq (tgt := 47) dX3_longest_19 rfl (fun c_4 => ?_) (fun c_4 => ?_)
    · have K := K.1 c_4
      refine JW.iinc (ls' := [(0, vR 351), (1, vI x1), (2, vI (i32 (x2 + 1)))]) dX3_longest_47 (Nat.le_of_ble_eq_true rfl) rfl rfl ?_
      refine JW.goto (tgt := 4) dX3_longest_50 rfl ?_
      exact JW.pick [0, 1, 2] rfl K
    · have K := K.2 c_4
      refine JW.aload_n dX3_longest_22 rfl ?_
      refine JW.iload_n dX3_longest_23 rfl ?_
      obtain ⟨o_5, K⟩ := K
      refine JW.mcall (As := [vI x1]) dX3_longest_24 vX3_isHome rfl q1899 (ctX3_isHome b s x1 o_5) (Nat.le_of_ble_eq_true rfl) rfl (Nat.le_of_ble_eq_true rfl) ?_
      rintro _ _ ⟨rfl, eq_6⟩
      refine JW.steq (s2 := s) eq_6 ?_
      refine JW.if_eq (tgt := 45) dX3_longest_27 rfl (fun c_7 => ?_) (fun c_7 => ?_)
      · have K := K.1 c_7
        refine JW.iload_n dX3_longest_45 rfl ?_
        refine JW.istore_n (ls' := [(0, vR 351), (1, vI x2), (2, vI x2)]) dX3_longest_46 (Nat.le_of_ble_eq_true rfl) rfl ?_
        refine JW.iinc (ls' := [(0, vR 351), (1, vI x2), (2, vI (i32 (x2 + 1)))]) dX3_longest_47 (Nat.le_of_ble_eq_true rfl) rfl rfl ?_
        refine JW.goto (tgt := 4) dX3_longest_50 rfl ?_
        exact JW.pick [0, 1, 2] rfl K
      · have K := K.2 c_7
        refine JW.aload_n dX3_longest_30 rfl ?_
        refine JW.mget (v := vR 368) dX3_longest_31 fX3_65 rfl ?_
        refine JW.iload_n dX3_longest_34 rfl ?_
        refine JW.mald 16 (x := (s.2 16 x2)) dX3_longest_35 (Nat.le_of_ble_eq_true rfl) rfl o_2.1 o_2.2 rfl ?_
        refine JW.aload_n dX3_longest_36 rfl ?_
        refine JW.mget (v := vR 368) dX3_longest_37 fX3_65 rfl ?_
        refine JW.iload_n dX3_longest_40 rfl ?_
        refine JW.mald 16 (x := (s.2 16 x1)) dX3_longest_41 (Nat.le_of_ble_eq_true rfl) rfl o_5.1 o_5.2 rfl ?_
        refine JW.icmp_le (tgt := 47) dX3_longest_42 rfl (fun c_8 => ?_) (fun c_8 => ?_)
        · have K := K.1 c_8
          refine JW.iinc (ls' := [(0, vR 351), (1, vI x1), (2, vI (i32 (x2 + 1)))]) dX3_longest_47 (Nat.le_of_ble_eq_true rfl) rfl rfl ?_
          refine JW.goto (tgt := 4) dX3_longest_50 rfl ?_
          exact JW.pick [0, 1, 2] rfl K
        · have K := K.2 c_8
          refine JW.iload_n dX3_longest_45 rfl ?_
          refine JW.istore_n (ls' := [(0, vR 351), (1, vI x2), (2, vI x2)]) dX3_longest_46 (Nat.le_of_ble_eq_true rfl) rfl ?_
          refine JW.iinc (ls' := [(0, vR 351), (1, vI x2), (2, vI (i32 (x2 + 1)))]) dX3_longest_47 (Nat.le_of_ble_eq_true rfl) rfl rfl ?_
          refine JW.goto (tgt := 4) dX3_longest_50 rfl ?_
          exact JW.pick [0, 1, 2] rfl K
def QX3_longest (s : MS) : Option AV → MS → Prop := fun v s' => v = some (vI (lgst (fun x => (s.2 15) x = x) (s.2 16) ((s.2 6) 2).toNat)) ∧ s' = s
theorem vX3_longest_1 (s : MS) (hp : tOK (s.2 6)) (x1 : Int) (x2 : Int) (hI : (0 ≤ x2 ∧ x2 ≤ s.2 6 2) ∧ x1 = lgst (fun x => s.2 15 x = x) (s.2 16) x2.toNat) (c_1 : (s.2 6 2) ≤ x2) : x1 = (lgst (fun x => (s.2 15) x = x) (s.2 16) ((s.2 6) 2).toNat) := by
  have hN := tOK_N hp
  (try have hb := lgst_b (fun x => s.2 15 x = x) (s.2 16) x2.toNat)
  (try have hs := lgst_s (fun x => s.2 15 x = x) (s.2 16) hI.1.1)
  (try unfold lex3)
  (try simp only [bI_0, bI_n, Classical.not_not] at *)
  (try simp (disch := omega) only [i32_id] at *)
  first | done | omega | ((repeat' (with_reducible apply And.intro)) <;> first | assumption | rfl | omega | (rw [hI.2, show x2 = s.2 6 2 by omega]) | (rw [hI.2] at *; exact (hs.1 ⟨by assumption, Or.inr (by assumption)⟩).symm) | (rw [hI.2] at *; exact (hs.1 ⟨by assumption, Or.inl (by assumption)⟩).symm) | (rw [hI.2] at *; exact (hs.2 (fun h => by rcases h with ⟨h1, h2 | h2⟩ <;> first | contradiction | omega)).symm) | grind [upI])
theorem vX3_longest_2 (s : MS) (hp : tOK (s.2 6)) (x1 : Int) (x2 : Int) (hI : (0 ≤ x2 ∧ x2 ≤ s.2 6 2) ∧ x1 = lgst (fun x => s.2 15 x = x) (s.2 16) x2.toNat) (c_1 : ¬ (s.2 6 2) ≤ x2) : (0 ≤ x2 ∧ x2 < 10000) := by
  have hN := tOK_N hp
  (try have hb := lgst_b (fun x => s.2 15 x = x) (s.2 16) x2.toNat)
  (try have hs := lgst_s (fun x => s.2 15 x = x) (s.2 16) hI.1.1)
  (try unfold lex3)
  (try simp only [bI_0, bI_n, Classical.not_not] at *)
  (try simp (disch := omega) only [i32_id] at *)
  first | done | omega | ((repeat' (with_reducible apply And.intro)) <;> first | assumption | rfl | omega | (rw [hI.2, show x2 = s.2 6 2 by omega]) | (rw [hI.2] at *; exact (hs.1 ⟨by assumption, Or.inr (by assumption)⟩).symm) | (rw [hI.2] at *; exact (hs.1 ⟨by assumption, Or.inl (by assumption)⟩).symm) | (rw [hI.2] at *; exact (hs.2 (fun h => by rcases h with ⟨h1, h2 | h2⟩ <;> first | contradiction | omega)).symm) | grind [upI])
theorem vX3_longest_3 (s : MS) (hp : tOK (s.2 6)) (x1 : Int) (x2 : Int) (hI : (0 ≤ x2 ∧ x2 ≤ s.2 6 2) ∧ x1 = lgst (fun x => s.2 15 x = x) (s.2 16) x2.toNat) (c_1 : ¬ (s.2 6 2) ≤ x2) (o_2 : (0 ≤ x2 ∧ x2 < 10000)) (c_4 : (bI ((s.2 15) x2 = x2)) = 0) : (0 ≤ (i32 (x2 + 1)) ∧ (i32 (x2 + 1)) ≤ s.2 6 2) ∧ x1 = lgst (fun x => s.2 15 x = x) (s.2 16) (i32 (x2 + 1)).toNat := by
  have hN := tOK_N hp
  (try have hb := lgst_b (fun x => s.2 15 x = x) (s.2 16) x2.toNat)
  (try have hs := lgst_s (fun x => s.2 15 x = x) (s.2 16) hI.1.1)
  (try unfold lex3)
  (try simp only [bI_0, bI_n, Classical.not_not] at *)
  (try simp (disch := omega) only [i32_id] at *)
  first | done | omega | ((repeat' (with_reducible apply And.intro)) <;> first | assumption | rfl | omega | (rw [hI.2, show x2 = s.2 6 2 by omega]) | (rw [hI.2] at *; exact (hs.1 ⟨by assumption, Or.inr (by assumption)⟩).symm) | (rw [hI.2] at *; exact (hs.1 ⟨by assumption, Or.inl (by assumption)⟩).symm) | (rw [hI.2] at *; exact (hs.2 (fun h => by rcases h with ⟨h1, h2 | h2⟩ <;> first | contradiction | omega)).symm) | grind [upI])
theorem vX3_longest_4 (s : MS) (hp : tOK (s.2 6)) (x1 : Int) (x2 : Int) (hI : (0 ≤ x2 ∧ x2 ≤ s.2 6 2) ∧ x1 = lgst (fun x => s.2 15 x = x) (s.2 16) x2.toNat) (c_1 : ¬ (s.2 6 2) ≤ x2) (o_2 : (0 ≤ x2 ∧ x2 < 10000)) (c_4 : (bI ((s.2 15) x2 = x2)) = 0) : lex3 0 0 ((s.2 6 2 - (i32 (x2 + 1))).toNat) 0 0 ((s.2 6 2 - x2).toNat) := by
  have hN := tOK_N hp
  (try have hb := lgst_b (fun x => s.2 15 x = x) (s.2 16) x2.toNat)
  (try have hs := lgst_s (fun x => s.2 15 x = x) (s.2 16) hI.1.1)
  (try unfold lex3)
  (try simp only [bI_0, bI_n, Classical.not_not] at *)
  (try simp (disch := omega) only [i32_id] at *)
  first | done | omega | ((repeat' (with_reducible apply And.intro)) <;> first | assumption | rfl | omega | (rw [hI.2, show x2 = s.2 6 2 by omega]) | (rw [hI.2] at *; exact (hs.1 ⟨by assumption, Or.inr (by assumption)⟩).symm) | (rw [hI.2] at *; exact (hs.1 ⟨by assumption, Or.inl (by assumption)⟩).symm) | (rw [hI.2] at *; exact (hs.2 (fun h => by rcases h with ⟨h1, h2 | h2⟩ <;> first | contradiction | omega)).symm) | grind [upI])
theorem vX3_longest_5 (s : MS) (hp : tOK (s.2 6)) (x1 : Int) (x2 : Int) (hI : (0 ≤ x2 ∧ x2 ≤ s.2 6 2) ∧ x1 = lgst (fun x => s.2 15 x = x) (s.2 16) x2.toNat) (c_1 : ¬ (s.2 6 2) ≤ x2) (o_2 : (0 ≤ x2 ∧ x2 < 10000)) (c_4 : ¬ (bI ((s.2 15) x2 = x2)) = 0) : (0 ≤ x1 ∧ x1 < 10000) := by
  have hN := tOK_N hp
  (try have hb := lgst_b (fun x => s.2 15 x = x) (s.2 16) x2.toNat)
  (try have hs := lgst_s (fun x => s.2 15 x = x) (s.2 16) hI.1.1)
  (try unfold lex3)
  (try simp only [bI_0, bI_n, Classical.not_not] at *)
  (try simp (disch := omega) only [i32_id] at *)
  first | done | omega | ((repeat' (with_reducible apply And.intro)) <;> first | assumption | rfl | omega | (rw [hI.2, show x2 = s.2 6 2 by omega]) | (rw [hI.2] at *; exact (hs.1 ⟨by assumption, Or.inr (by assumption)⟩).symm) | (rw [hI.2] at *; exact (hs.1 ⟨by assumption, Or.inl (by assumption)⟩).symm) | (rw [hI.2] at *; exact (hs.2 (fun h => by rcases h with ⟨h1, h2 | h2⟩ <;> first | contradiction | omega)).symm) | grind [upI])
theorem vX3_longest_6 (s : MS) (hp : tOK (s.2 6)) (x1 : Int) (x2 : Int) (hI : (0 ≤ x2 ∧ x2 ≤ s.2 6 2) ∧ x1 = lgst (fun x => s.2 15 x = x) (s.2 16) x2.toNat) (c_1 : ¬ (s.2 6 2) ≤ x2) (o_2 : (0 ≤ x2 ∧ x2 < 10000)) (c_4 : ¬ (bI ((s.2 15) x2 = x2)) = 0) (o_5 : (0 ≤ x1 ∧ x1 < 10000)) (c_7 : (bI ((s.2 15) x1 = x1)) = 0) : (0 ≤ (i32 (x2 + 1)) ∧ (i32 (x2 + 1)) ≤ s.2 6 2) ∧ x2 = lgst (fun x => s.2 15 x = x) (s.2 16) (i32 (x2 + 1)).toNat := by
  have hN := tOK_N hp
  (try have hb := lgst_b (fun x => s.2 15 x = x) (s.2 16) x2.toNat)
  (try have hs := lgst_s (fun x => s.2 15 x = x) (s.2 16) hI.1.1)
  (try unfold lex3)
  (try simp only [bI_0, bI_n, Classical.not_not] at *)
  (try simp (disch := omega) only [i32_id] at *)
  first | done | omega | ((repeat' (with_reducible apply And.intro)) <;> first | assumption | rfl | omega | (rw [hI.2, show x2 = s.2 6 2 by omega]) | (rw [hI.2] at *; exact (hs.1 ⟨by assumption, Or.inr (by assumption)⟩).symm) | (rw [hI.2] at *; exact (hs.1 ⟨by assumption, Or.inl (by assumption)⟩).symm) | (rw [hI.2] at *; exact (hs.2 (fun h => by rcases h with ⟨h1, h2 | h2⟩ <;> first | contradiction | omega)).symm) | grind [upI])
theorem vX3_longest_7 (s : MS) (hp : tOK (s.2 6)) (x1 : Int) (x2 : Int) (hI : (0 ≤ x2 ∧ x2 ≤ s.2 6 2) ∧ x1 = lgst (fun x => s.2 15 x = x) (s.2 16) x2.toNat) (c_1 : ¬ (s.2 6 2) ≤ x2) (o_2 : (0 ≤ x2 ∧ x2 < 10000)) (c_4 : ¬ (bI ((s.2 15) x2 = x2)) = 0) (o_5 : (0 ≤ x1 ∧ x1 < 10000)) (c_7 : (bI ((s.2 15) x1 = x1)) = 0) : lex3 0 0 ((s.2 6 2 - (i32 (x2 + 1))).toNat) 0 0 ((s.2 6 2 - x2).toNat) := by
  have hN := tOK_N hp
  (try have hb := lgst_b (fun x => s.2 15 x = x) (s.2 16) x2.toNat)
  (try have hs := lgst_s (fun x => s.2 15 x = x) (s.2 16) hI.1.1)
  (try unfold lex3)
  (try simp only [bI_0, bI_n, Classical.not_not] at *)
  (try simp (disch := omega) only [i32_id] at *)
  first | done | omega | ((repeat' (with_reducible apply And.intro)) <;> first | assumption | rfl | omega | (rw [hI.2, show x2 = s.2 6 2 by omega]) | (rw [hI.2] at *; exact (hs.1 ⟨by assumption, Or.inr (by assumption)⟩).symm) | (rw [hI.2] at *; exact (hs.1 ⟨by assumption, Or.inl (by assumption)⟩).symm) | (rw [hI.2] at *; exact (hs.2 (fun h => by rcases h with ⟨h1, h2 | h2⟩ <;> first | contradiction | omega)).symm) | grind [upI])
theorem vX3_longest_8 (s : MS) (hp : tOK (s.2 6)) (x1 : Int) (x2 : Int) (hI : (0 ≤ x2 ∧ x2 ≤ s.2 6 2) ∧ x1 = lgst (fun x => s.2 15 x = x) (s.2 16) x2.toNat) (c_1 : ¬ (s.2 6 2) ≤ x2) (o_2 : (0 ≤ x2 ∧ x2 < 10000)) (c_4 : ¬ (bI ((s.2 15) x2 = x2)) = 0) (o_5 : (0 ≤ x1 ∧ x1 < 10000)) (c_7 : ¬ (bI ((s.2 15) x1 = x1)) = 0) (c_8 : (s.2 16 x2) ≤ (s.2 16 x1)) : (0 ≤ (i32 (x2 + 1)) ∧ (i32 (x2 + 1)) ≤ s.2 6 2) ∧ x1 = lgst (fun x => s.2 15 x = x) (s.2 16) (i32 (x2 + 1)).toNat := by
  have hN := tOK_N hp
  (try have hb := lgst_b (fun x => s.2 15 x = x) (s.2 16) x2.toNat)
  (try have hs := lgst_s (fun x => s.2 15 x = x) (s.2 16) hI.1.1)
  (try unfold lex3)
  (try simp only [bI_0, bI_n, Classical.not_not] at *)
  (try simp (disch := omega) only [i32_id] at *)
  first | done | omega | ((repeat' (with_reducible apply And.intro)) <;> first | assumption | rfl | omega | (rw [hI.2, show x2 = s.2 6 2 by omega]) | (rw [hI.2] at *; exact (hs.1 ⟨by assumption, Or.inr (by assumption)⟩).symm) | (rw [hI.2] at *; exact (hs.1 ⟨by assumption, Or.inl (by assumption)⟩).symm) | (rw [hI.2] at *; exact (hs.2 (fun h => by rcases h with ⟨h1, h2 | h2⟩ <;> first | contradiction | omega)).symm) | grind [upI])
theorem vX3_longest_9 (s : MS) (hp : tOK (s.2 6)) (x1 : Int) (x2 : Int) (hI : (0 ≤ x2 ∧ x2 ≤ s.2 6 2) ∧ x1 = lgst (fun x => s.2 15 x = x) (s.2 16) x2.toNat) (c_1 : ¬ (s.2 6 2) ≤ x2) (o_2 : (0 ≤ x2 ∧ x2 < 10000)) (c_4 : ¬ (bI ((s.2 15) x2 = x2)) = 0) (o_5 : (0 ≤ x1 ∧ x1 < 10000)) (c_7 : ¬ (bI ((s.2 15) x1 = x1)) = 0) (c_8 : (s.2 16 x2) ≤ (s.2 16 x1)) : lex3 0 0 ((s.2 6 2 - (i32 (x2 + 1))).toNat) 0 0 ((s.2 6 2 - x2).toNat) := by
  have hN := tOK_N hp
  (try have hb := lgst_b (fun x => s.2 15 x = x) (s.2 16) x2.toNat)
  (try have hs := lgst_s (fun x => s.2 15 x = x) (s.2 16) hI.1.1)
  (try unfold lex3)
  (try simp only [bI_0, bI_n, Classical.not_not] at *)
  (try simp (disch := omega) only [i32_id] at *)
  first | done | omega | ((repeat' (with_reducible apply And.intro)) <;> first | assumption | rfl | omega | (rw [hI.2, show x2 = s.2 6 2 by omega]) | (rw [hI.2] at *; exact (hs.1 ⟨by assumption, Or.inr (by assumption)⟩).symm) | (rw [hI.2] at *; exact (hs.1 ⟨by assumption, Or.inl (by assumption)⟩).symm) | (rw [hI.2] at *; exact (hs.2 (fun h => by rcases h with ⟨h1, h2 | h2⟩ <;> first | contradiction | omega)).symm) | grind [upI])
theorem vX3_longest_10 (s : MS) (hp : tOK (s.2 6)) (x1 : Int) (x2 : Int) (hI : (0 ≤ x2 ∧ x2 ≤ s.2 6 2) ∧ x1 = lgst (fun x => s.2 15 x = x) (s.2 16) x2.toNat) (c_1 : ¬ (s.2 6 2) ≤ x2) (o_2 : (0 ≤ x2 ∧ x2 < 10000)) (c_4 : ¬ (bI ((s.2 15) x2 = x2)) = 0) (o_5 : (0 ≤ x1 ∧ x1 < 10000)) (c_7 : ¬ (bI ((s.2 15) x1 = x1)) = 0) (c_8 : ¬ (s.2 16 x2) ≤ (s.2 16 x1)) : (0 ≤ (i32 (x2 + 1)) ∧ (i32 (x2 + 1)) ≤ s.2 6 2) ∧ x2 = lgst (fun x => s.2 15 x = x) (s.2 16) (i32 (x2 + 1)).toNat := by
  have hN := tOK_N hp
  (try have hb := lgst_b (fun x => s.2 15 x = x) (s.2 16) x2.toNat)
  (try have hs := lgst_s (fun x => s.2 15 x = x) (s.2 16) hI.1.1)
  (try unfold lex3)
  (try simp only [bI_0, bI_n, Classical.not_not] at *)
  (try simp (disch := omega) only [i32_id] at *)
  first | done | omega | ((repeat' (with_reducible apply And.intro)) <;> first | assumption | rfl | omega | (rw [hI.2, show x2 = s.2 6 2 by omega]) | (rw [hI.2] at *; exact (hs.1 ⟨by assumption, Or.inr (by assumption)⟩).symm) | (rw [hI.2] at *; exact (hs.1 ⟨by assumption, Or.inl (by assumption)⟩).symm) | (rw [hI.2] at *; exact (hs.2 (fun h => by rcases h with ⟨h1, h2 | h2⟩ <;> first | contradiction | omega)).symm) | grind [upI])
theorem vX3_longest_11 (s : MS) (hp : tOK (s.2 6)) (x1 : Int) (x2 : Int) (hI : (0 ≤ x2 ∧ x2 ≤ s.2 6 2) ∧ x1 = lgst (fun x => s.2 15 x = x) (s.2 16) x2.toNat) (c_1 : ¬ (s.2 6 2) ≤ x2) (o_2 : (0 ≤ x2 ∧ x2 < 10000)) (c_4 : ¬ (bI ((s.2 15) x2 = x2)) = 0) (o_5 : (0 ≤ x1 ∧ x1 < 10000)) (c_7 : ¬ (bI ((s.2 15) x1 = x1)) = 0) (c_8 : ¬ (s.2 16 x2) ≤ (s.2 16 x1)) : lex3 0 0 ((s.2 6 2 - (i32 (x2 + 1))).toNat) 0 0 ((s.2 6 2 - x2).toNat) := by
  have hN := tOK_N hp
  (try have hb := lgst_b (fun x => s.2 15 x = x) (s.2 16) x2.toNat)
  (try have hs := lgst_s (fun x => s.2 15 x = x) (s.2 16) hI.1.1)
  (try unfold lex3)
  (try simp only [bI_0, bI_n, Classical.not_not] at *)
  (try simp (disch := omega) only [i32_id] at *)
  first | done | omega | ((repeat' (with_reducible apply And.intro)) <;> first | assumption | rfl | omega | (rw [hI.2, show x2 = s.2 6 2 by omega]) | (rw [hI.2] at *; exact (hs.1 ⟨by assumption, Or.inr (by assumption)⟩).symm) | (rw [hI.2] at *; exact (hs.1 ⟨by assumption, Or.inl (by assumption)⟩).symm) | (rw [hI.2] at *; exact (hs.2 (fun h => by rcases h with ⟨h1, h2 | h2⟩ <;> first | contradiction | omega)).symm) | grind [upI])
theorem vX3_longest_12 (s : MS) (hp : tOK (s.2 6)) : (0 ≤ (0 : Int) ∧ (0 : Int) ≤ s.2 6 2) ∧ (0 : Int) = lgst (fun x => s.2 15 x = x) (s.2 16) (0 : Int).toNat := by
  have hN := tOK_N hp
  (try have hb := lgst_b (fun x => s.2 15 x = x) (s.2 16) x2.toNat)
  (try have hs := lgst_s (fun x => s.2 15 x = x) (s.2 16) hI.1.1)
  (try unfold lex3)
  (try simp only [bI_0, bI_n, Classical.not_not] at *)
  (try simp (disch := omega) only [i32_id] at *)
  first | done | omega | ((repeat' (with_reducible apply And.intro)) <;> first | assumption | rfl | omega | (rw [hI.2, show x2 = s.2 6 2 by omega]) | (rw [hI.2] at *; exact (hs.1 ⟨by assumption, Or.inr (by assumption)⟩).symm) | (rw [hI.2] at *; exact (hs.1 ⟨by assumption, Or.inl (by assumption)⟩).symm) | (rw [hI.2] at *; exact (hs.2 (fun h => by rcases h with ⟨h1, h2 | h2⟩ <;> first | contradiction | omega)).symm) | grind [upI])
theorem allX3_longest (b : AH) (s : MS) (hp : tOK (s.2 6)) : ∀ m1 m2 m3 : Nat, (∀ (x1 : Int) (x2 : Int), m1 = 0 → m2 = 0 → m3 = ((s.2 6 2 - x2).toNat) → ((0 ≤ x2 ∧ x2 ≤ s.2 6 2) ∧ x1 = lgst (fun x => s.2 15 x = x) (s.2 16) x2.toNat) → HX3_longest_4 (QX3_longest s) b s x1 x2) := by
  refine lex3_ind ?_
  intro m1 m2 m3 ih
  rintro x1 x2 rfl rfl rfl hI
  refine bX3_longest_4 b s x1 x2 ?_
  refine ⟨fun c_1 => ?_, fun c_1 => ?_⟩
  · exact ⟨(rI_c (vX3_longest_1 s hp x1 x2 hI c_1)), rfl⟩
  · have o_2 : (0 ≤ x2 ∧ x2 < 10000) := (vX3_longest_2 s hp x1 x2 hI c_1)
    refine ⟨o_2, ?_⟩
    refine ⟨fun c_4 => ?_, fun c_4 => ?_⟩
    · exact (ih _ _ _ (vX3_longest_4 s hp x1 x2 hI c_1 o_2 c_4)) x1 (i32 (x2 + 1)) rfl rfl rfl (vX3_longest_3 s hp x1 x2 hI c_1 o_2 c_4)
    · have o_5 : (0 ≤ x1 ∧ x1 < 10000) := (vX3_longest_5 s hp x1 x2 hI c_1 o_2 c_4)
      refine ⟨o_5, ?_⟩
      refine ⟨fun c_7 => ?_, fun c_7 => ?_⟩
      · exact (ih _ _ _ (vX3_longest_7 s hp x1 x2 hI c_1 o_2 c_4 o_5 c_7)) x2 (i32 (x2 + 1)) rfl rfl rfl (vX3_longest_6 s hp x1 x2 hI c_1 o_2 c_4 o_5 c_7)
      · refine ⟨fun c_8 => ?_, fun c_8 => ?_⟩
        · exact (ih _ _ _ (vX3_longest_9 s hp x1 x2 hI c_1 o_2 c_4 o_5 c_7 c_8)) x1 (i32 (x2 + 1)) rfl rfl rfl (vX3_longest_8 s hp x1 x2 hI c_1 o_2 c_4 o_5 c_7 c_8)
        · exact (ih _ _ _ (vX3_longest_11 s hp x1 x2 hI c_1 o_2 c_4 o_5 c_7 c_8)) x2 (i32 (x2 + 1)) rfl rfl rfl (vX3_longest_10 s hp x1 x2 hI c_1 o_2 c_4 o_5 c_7 c_8)
theorem ctX3_longest (b : AH) (s : MS) (hp : tOK (s.2 6)) : MC mX3_longest 2 b s [] (QX3_longest s) := by
  refine MC.of (by decide) rfl (Nat.le_of_ble_eq_true rfl) ?_
  refine bX3_longest_0 b s  ?_
  exact (allX3_longest b s hp _ _ _) 0 0 rfl rfl rfl (vX3_longest_12 s hp)
