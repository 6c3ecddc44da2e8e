/-! contracts of the reference: best -/
set_option maxRecDepth 100000
def HX3_best_0 (Q : Option AV → MS → Prop) (b : AH) (s : MS) (x1 : Int) (x2 : Int) (f11 : Int → Int) (f12 : Int → Int) (f13 : Int → Int) (f14 : Int → Int) (f15 : Int → Int) (f16 : Int → Int) (f17 : Int → Int) (f18 : Int → Int) (f19 : Int → Int) (k0 : Int) (k25 : Int) (k33 : Int) (k34 : Int) : Prop := MW mX3_best 9 Q b 0 [(0, vR 351), (1, vI x1), (2, vI x2)] [] (sS (sS (sS (sS (sA (sA (sA (sA (sA (sA (sA (sA (sA s 11 f11) 12 f12) 13 f13) 14 f14) 15 f15) 16 f16) 17 f17) 18 f18) 19 f19) 0 k0) 25 k25) 33 k33) 34 k34)
def HX3_best_62 (Q : Option AV → MS → Prop) (b : AH) (s : MS) (x1 : Int) (x2 : Int) (x3 : Int) (x4 : Int) (x5 : Int) (x6 : Int) (f11 : Int → Int) (f12 : Int → Int) (f13 : Int → Int) (f14 : Int → Int) (f15 : Int → Int) (f16 : Int → Int) (f17 : Int → Int) (f18 : Int → Int) (f19 : Int → Int) (k0 : Int) (k25 : Int) (k33 : Int) (k34 : Int) : Prop := MW mX3_best 9 Q b 62 [(0, vR 351), (1, vI x1), (2, vI x2), (3, vI x3), (4, vI x4), (5, vI x5), (6, vI x6)] [] (sS (sS (sS (sS (sA (sA (sA (sA (sA (sA (sA (sA (sA s 11 f11) 12 f12) 13 f13) 14 f14) 15 f15) 16 f16) 17 f17) 18 f18) 19 f19) 0 k0) 25 k25) 33 k33) 34 k34)
def HX3_best_72 (Q : Option AV → MS → Prop) (b : AH) (s : MS) (x1 : Int) (x2 : Int) (x3 : Int) (x4 : Int) (x5 : Int) (x6 : Int) (x7 : Int) (f11 : Int → Int) (f12 : Int → Int) (f13 : Int → Int) (f14 : Int → Int) (f15 : Int → Int) (f16 : Int → Int) (f17 : Int → Int) (f18 : Int → Int) (f19 : Int → Int) (k0 : Int) (k25 : Int) (k33 : Int) (k34 : Int) : Prop := MW mX3_best 9 Q b 72 [(0, vR 351), (1, vI x1), (2, vI x2), (3, vI x3), (4, vI x4), (5, vI x5), (6, vI x6), (7, vI x7)] [] (sS (sS (sS (sS (sA (sA (sA (sA (sA (sA (sA (sA (sA s 11 f11) 12 f12) 13 f13) 14 f14) 15 f15) 16 f16) 17 f17) 18 f18) 19 f19) 0 k0) 25 k25) 33 k33) 34 k34)
theorem bX3_best_0 {Q : Option AV → MS → Prop} (b : AH) (s : MS) (x1 : Int) (x2 : Int) (f11 : Int → Int) (f12 : Int → Int) (f13 : Int → Int) (f14 : Int → Int) (f15 : Int → Int) (f16 : Int → Int) (f17 : Int → Int) (f18 : Int → Int) (f19 : Int → Int) (k0 : Int) (k25 : Int) (k33 : Int) (k34 : Int) (K : ((bI (0 < (s.2 5) 0)) = 0 → Q (some (vI (-2))) (sS (sS (sS (sS (sA (sA (sA (sA (sA (sA (sA (sA (sA s 11 f11) 12 f12) 13 f13) 14 f14) 15 f15) 16 f16) 17 f17) 18 f18) 19 f19) 0 0) 25 k25) 33 k33) 34 k34)) ∧ (¬ (bI (0 < (s.2 5) 0)) = 0 → ((bI ((1 : Int) ≤ x1 ∧ x1 ≤ (2 : Int))) = 0 → Q (some (vI (-2))) (sS (sS (sS (sS (sA (sA (sA (sA (sA (sA (sA (sA (sA s 11 f11) 12 f12) 13 f13) 14 f14) 15 f15) 16 f16) 17 f17) 18 f18) 19 f19) 0 0) 25 k25) 33 k33) 34 k34)) ∧ (¬ (bI ((1 : Int) ≤ x1 ∧ x1 ≤ (2 : Int))) = 0 → (¬ (bI ((0 : Int) ≤ x2 ∧ x2 ≤ (2 : Int))) = 0 → (¬ x1 = 1 → HX3_best_62 Q b s x1 x2 (-1) (-1) 144 0 f11 f12 f13 f14 f15 f16 f17 f18 f19 0 k25 k33 k34) ∧ (x1 = 1 → HX3_best_62 Q b s x1 x2 (-1) (-1) 12 0 f11 f12 f13 f14 f15 f16 f17 f18 f19 0 k25 k33 k34)) ∧ ((bI ((0 : Int) ≤ x2 ∧ x2 ≤ (2 : Int))) = 0 → Q (some (vI (-2))) (sS (sS (sS (sS (sA (sA (sA (sA (sA (sA (sA (sA (sA s 11 f11) 12 f12) 13 f13) 14 f14) 15 f15) 16 f16) 17 f17) 18 f18) 19 f19) 0 0) 25 k25) 33 k33) 34 k34))))) : HX3_best_0 Q b s x1 x2 f11 f12 f13 f14 f15 f16 f17 f18 f19 k0 k25 k33 k34 := by
  refine JW.aload_n dX3_best_0 rfl ?_
  refine JW.iconst dX3_best_1 rfl ?_
  refine JW.mputI dX3_best_2 (pX3_77 _) rfl ?_
  refine JW.steq (s2 := sS (sS (sS (sS (sA (sA (sA (sA (sA (sA (sA (sA (sA s 11 f11) 12 f12) 13 f13) 14 f14) 15 f15) 16 f16) 17 f17) 18 f18) 19 f19) 0 0) 25 k25) 33 k33) 34 k34) (by simp only [sA_A, sS_S, sA_S, sA_lt, sS_lt, Nat.reduceLT, id_eq] <;> rfl) ?_
  refine JW.aload_n dX3_best_5 rfl ?_
  refine JW.mcall (As := []) dX3_best_6 vX3_isTable rfl q1798 (ctX3_isTable b (sS (sS (sS (sS (sA (sA (sA (sA (sA (sA (sA (sA (sA s 11 f11) 12 f12) 13 f13) 14 f14) 15 f15) 16 f16) 17 f17) 18 f18) 19 f19) 0 0) 25 k25) 33 k33) 34 k34)) (Nat.le_of_ble_eq_true rfl) rfl (Nat.le_of_ble_eq_true rfl) ?_
  rintro _ _ ⟨rfl, eq_1⟩
  refine JW.steq (s2 := sS (sS (sS (sS (sA (sA (sA (sA (sA (sA (sA (sA (sA s 11 f11) 12 f12) 13 f13) 14 f14) 15 f15) 16 f16) 17 f17) 18 f18) 19 f19) 0 0) 25 k25) 33 k33) 34 k34) eq_1 ?_
  refine JW.if_eq (tgt := 36) dX3_best_9 rfl (fun c_2 => ?_) (fun c_2 => ?_)
  · have K := K.1 c_2
    refine JW.bipush dX3_best_36 rfl ?_
    exact JW.ireturn dX3_best_38 rfl rfl ⟨_, rfl, K⟩
  · have K := K.2 c_2
    refine JW.iload_n dX3_best_12 rfl ?_
    refine JW.i2l dX3_best_13 ?_
    refine JW.lconst (x := 1) dX3_best_14 rfl ?_
    refine JW.ldc2 (x := 2) dX3_best_15 q1923 rfl ?_
    refine JW.mcallS (As := [vL x1, vL 1, vL 2]) dX3_best_18 vX3_in q1632 (ctX3_in b (sS (sS (sS (sS (sA (sA (sA (sA (sA (sA (sA (sA (sA s 11 f11) 12 f12) 13 f13) 14 f14) 15 f15) 16 f16) 17 f17) 18 f18) 19 f19) 0 0) 25 k25) 33 k33) 34 k34) x1 1 2) (Nat.le_of_ble_eq_true rfl) rfl (Nat.le_of_ble_eq_true rfl) ?_
    rintro _ _ ⟨rfl, eq_3⟩
    refine JW.steq (s2 := sS (sS (sS (sS (sA (sA (sA (sA (sA (sA (sA (sA (sA s 11 f11) 12 f12) 13 f13) 14 f14) 15 f15) 16 f16) 17 f17) 18 f18) 19 f19) 0 0) 25 k25) 33 k33) 34 k34) eq_3 ?_
    refine JW.if_eq (tgt := 36) dX3_best_21 rfl (fun c_4 => ?_) (fun c_4 => ?_)
    · have K := K.1 c_4
      refine JW.bipush dX3_best_36 rfl ?_
      exact JW.ireturn dX3_best_38 rfl rfl ⟨_, rfl, K⟩
    · have K := K.2 c_4
      refine JW.iload_n dX3_best_24 rfl ?_
      refine JW.i2l dX3_best_25 ?_
      refine JW.lconst (x := 0) dX3_best_26 rfl ?_
      refine JW.ldc2 (x := 2) dX3_best_27 q1923 rfl ?_
      refine JW.mcallS (As := [vL x2, vL 0, vL 2]) dX3_best_30 vX3_in q1632 (ctX3_in b (sS (sS (sS (sS (sA (sA (sA (sA (sA (sA (sA (sA (sA s 11 f11) 12 f12) 13 f13) 14 f14) 15 f15) 16 f16) 17 f17) 18 f18) 19 f19) 0 0) 25 k25) 33 k33) 34 k34) x2 0 2) (Nat.le_of_ble_eq_true rfl) rfl (Nat.le_of_ble_eq_true rfl) ?_
      rintro _ _ ⟨rfl, eq_5⟩
      refine JW.steq (s2 := sS (sS (sS (sS (sA (sA (sA (sA (sA (sA (sA (sA (sA s 11 f11) 12 f12) 13 f13) 14 f14) 15 f15) 16 f16) 17 f17) 18 f18) 19 f19) 0 0) 25 k25) 33 k33) 34 k34) eq_5 ?_
      refine JW.if_ne (tgt := 39) dX3_best_33 rfl (fun c_6 => ?_) (fun c_6 => ?_)
      · have K := K.1 c_6
        refine JW.iconst dX3_best_39 rfl ?_
        refine JW.istore_n (ls' := [(0, vR 351), (1, vI x1), (2, vI x2), (3, vI (-1))]) dX3_best_40 (Nat.le_of_ble_eq_true rfl) rfl ?_
        refine JW.iconst dX3_best_41 rfl ?_
        refine JW.istore (ls' := [(0, vR 351), (1, vI x1), (2, vI x2), (3, vI (-1)), (4, vI (-1))]) dX3_best_42 (Nat.le_of_ble_eq_true rfl) rfl ?_
        refine JW.iload_n dX3_best_44 rfl ?_
        refine JW.iconst dX3_best_45 rfl ?_
        refine JW.icmp_ne (tgt := 54) dX3_best_46 rfl (fun c_7 => ?_) (fun c_7 => ?_)
        · have K := K.1 c_7
          refine JW.sipush dX3_best_54 rfl ?_
          refine JW.istore (ls' := [(0, vR 351), (1, vI x1), (2, vI x2), (3, vI (-1)), (4, vI (-1)), (5, vI 144)]) dX3_best_57 (Nat.le_of_ble_eq_true rfl) rfl ?_
          refine JW.iconst dX3_best_59 rfl ?_
          refine JW.istore (ls' := [(0, vR 351), (1, vI x1), (2, vI x2), (3, vI (-1)), (4, vI (-1)), (5, vI 144), (6, vI 0)]) dX3_best_60 (Nat.le_of_ble_eq_true rfl) rfl ?_
          exact JW.pick [0, 1, 2, 3, 4, 5, 6] rfl K
        · have K := K.2 c_7
          refine JW.bipush dX3_best_49 rfl ?_
          refine JW.goto (tgt := 57) dX3_best_51 rfl ?_
          refine JW.istore (ls' := [(0, vR 351), (1, vI x1), (2, vI x2), (3, vI (-1)), (4, vI (-1)), (5, vI 12)]) dX3_best_57 (Nat.le_of_ble_eq_true rfl) rfl ?_
          refine JW.iconst dX3_best_59 rfl ?_
          refine JW.istore (ls' := [(0, vR 351), (1, vI x1), (2, vI x2), (3, vI (-1)), (4, vI (-1)), (5, vI 12), (6, vI 0)]) dX3_best_60 (Nat.le_of_ble_eq_true rfl) rfl ?_
          exact JW.pick [0, 1, 2, 3, 4, 5, 6] rfl K
      · have K := K.2 c_6
        refine JW.bipush dX3_best_36 rfl ?_
        exact JW.ireturn dX3_best_38 rfl rfl ⟨_, rfl, K⟩
theorem bX3_best_62 {Q : Option AV → MS → Prop} (b : AH) (s : MS) (x1 : Int) (x2 : Int) (x3 : Int) (x4 : Int) (x5 : Int) (x6 : Int) (f11 : Int → Int) (f12 : Int → Int) (f13 : Int → Int) (f14 : Int → Int) (f15 : Int → Int) (f16 : Int → Int) (f17 : Int → Int) (f18 : Int → Int) (f19 : Int → Int) (k0 : Int) (k25 : Int) (k33 : Int) (k34 : Int) (K : (x5 ≤ x6 → (¬ x1 = 1 → Q (some (vI (i32 ((i32 (100 * (i32 (Int.tdiv x3 12)))) + (i32 (Int.tmod x3 12)))))) (sS (sS (sS (sS (sA (sA (sA (sA (sA (sA (sA (sA (sA s 11 f11) 12 f12) 13 f13) 14 f14) 15 f15) 16 f16) 17 f17) 18 f18) 19 f19) 0 k0) 25 k25) 33 k33) 34 k34)) ∧ (x1 = 1 → Q (some (vI x3)) (sS (sS (sS (sS (sA (sA (sA (sA (sA (sA (sA (sA (sA s 11 f11) 12 f12) 13 f13) 14 f14) 15 f15) 16 f16) 17 f17) 18 f18) 19 f19) 0 k0) 25 k25) 33 k33) 34 k34))) ∧ (¬ x5 ≤ x6 → HX3_best_72 Q b s x1 x2 x3 x4 x5 x6 0 f11 f12 f13 f14 f15 f16 f17 f18 f19 k0 k25 k33 k34)) : HX3_best_62 Q b s x1 x2 x3 x4 x5 x6 f11 f12 f13 f14 f15 f16 f17 f18 f19 k0 k25 k33 k34 := by
  refine JW.iload dX3_best_62 rfl ?_
  refine JW.iload dX3_best_64 rfl ?_
  refine JW.icmp_ge (tgt := 166) dX3_best_66 rfl (fun c_1 => ?_) (fun c_1 => ?_)
  · have K := K.1 c_1
    refine JW.iload_n dX3_best_166 rfl ?_
    refine JW.iconst dX3_best_167 rfl ?_
    refine JW.icmp_ne (tgt := 175) dX3_best_168 rfl (fun c_2 => ?_) (fun c_2 => ?_)
    · have K := K.1 c_2
      refine JW.bipush dX3_best_175 rfl ?_
      refine JW.iload_n dX3_best_177 rfl ?_
      refine JW.bipush dX3_best_178 rfl ?_
      refine JW.idiv dX3_best_180 (by decide) ?_
      refine JW.imul dX3_best_181 ?_
      refine JW.iload_n dX3_best_182 rfl ?_
      refine JW.bipush dX3_best_183 rfl ?_
      refine JW.irem dX3_best_185 (by decide) ?_
      refine JW.iadd dX3_best_186 ?_
      exact JW.ireturn dX3_best_187 rfl rfl ⟨_, rfl, K⟩
    · have K := K.2 c_2
      refine JW.iload_n dX3_best_171 rfl ?_
      refine JW.goto (tgt := 187) dX3_best_172 rfl ?_
      exact JW.ireturn dX3_best_187 rfl rfl ⟨_, rfl, K⟩
  · have K := K.2 c_1
    refine JW.iconst dX3_best_69 rfl ?_
    refine JW.istore (ls' := [(0, vR 351), (1, vI x1), (2, vI x2), (3, vI x3), (4, vI x4), (5, vI x5), (6, vI x6), (7, vI 0)]) dX3_best_70 (Nat.le_of_ble_eq_true rfl) rfl ?_
    exact JW.pick [0, 1, 2, 3, 4, 5, 6, 7] rfl K
theorem bX3_best_72 {Q : Option AV → MS → Prop} (b : AH) (s : MS) (x1 : Int) (x2 : Int) (x3 : Int) (x4 : Int) (x5 : Int) (x6 : Int) (x7 : Int) (f11 : Int → Int) (f12 : Int → Int) (f13 : Int → Int) (f14 : Int → Int) (f15 : Int → Int) (f16 : Int → Int) (f17 : Int → Int) (f18 : Int → Int) (f19 : Int → Int) (k0 : Int) (k25 : Int) (k33 : Int) (k34 : Int) (K : ((s.2 6 2) ≤ x7 → (rng f13 ((s.2 6) 2) ∧ 0 ≤ (s.2 6) 2 ∧ (s.2 6) 2 ≤ 10000) ∧ ((∀ (f_3 : Int → Int), (¬ x2 = 0 → (¬ x2 = 1 → (tOK (s.2 6)) ∧ ((x4 < (maxI 0 (lay ((s.2 6) 2) (tl f13) f14) ((s.2 6) 2).toNat) → HX3_best_62 Q b s x1 x2 x6 (maxI 0 (lay ((s.2 6) 2) (tl f13) f14) ((s.2 6) 2).toNat) x5 (i32 (x6 + 1)) f11 f12 f13 (lay ((s.2 6) 2) (tl f13) f14) (lay ((s.2 6) 2) (hm f13) f15) (lay ((s.2 6) 2) (rg f13) f16) f_3 f18 f19 k0 k25 k33 k34) ∧ (¬ x4 < (maxI 0 (lay ((s.2 6) 2) (tl f13) f14) ((s.2 6) 2).toNat) → HX3_best_62 Q b s x1 x2 x3 x4 x5 (i32 (x6 + 1)) f11 f12 f13 (lay ((s.2 6) 2) (tl f13) f14) (lay ((s.2 6) 2) (hm f13) f15) (lay ((s.2 6) 2) (rg f13) f16) f_3 f18 f19 k0 k25 k33 k34))) ∧ (x2 = 1 → (tOK (s.2 6)) ∧ ((x4 < (many (fun x => (lay ((s.2 6) 2) (hm f13) f15) x = x) ((s.2 6) 2).toNat) → HX3_best_62 Q b s x1 x2 x6 (many (fun x => (lay ((s.2 6) 2) (hm f13) f15) x = x) ((s.2 6) 2).toNat) x5 (i32 (x6 + 1)) f11 f12 f13 (lay ((s.2 6) 2) (tl f13) f14) (lay ((s.2 6) 2) (hm f13) f15) (lay ((s.2 6) 2) (rg f13) f16) f_3 f18 f19 k0 k25 k33 k34) ∧ (¬ x4 < (many (fun x => (lay ((s.2 6) 2) (hm f13) f15) x = x) ((s.2 6) 2).toNat) → HX3_best_62 Q b s x1 x2 x3 x4 x5 (i32 (x6 + 1)) f11 f12 f13 (lay ((s.2 6) 2) (tl f13) f14) (lay ((s.2 6) 2) (hm f13) f15) (lay ((s.2 6) 2) (rg f13) f16) f_3 f18 f19 k0 k25 k33 k34)))) ∧ (x2 = 0 → (tOK (s.2 6)) ∧ ((0 ≤ (lgst (fun x => (lay ((s.2 6) 2) (hm f13) f15) x = x) (lay ((s.2 6) 2) (rg f13) f16) ((s.2 6) 2).toNat) ∧ (lgst (fun x => (lay ((s.2 6) 2) (hm f13) f15) x = x) (lay ((s.2 6) 2) (rg f13) f16) ((s.2 6) 2).toNat) < 10000) ∧ ((x4 < ((lay ((s.2 6) 2) (rg f13) f16) (lgst (fun x => (lay ((s.2 6) 2) (hm f13) f15) x = x) (lay ((s.2 6) 2) (rg f13) f16) ((s.2 6) 2).toNat)) → HX3_best_62 Q b s x1 x2 x6 ((lay ((s.2 6) 2) (rg f13) f16) (lgst (fun x => (lay ((s.2 6) 2) (hm f13) f15) x = x) (lay ((s.2 6) 2) (rg f13) f16) ((s.2 6) 2).toNat)) x5 (i32 (x6 + 1)) f11 f12 f13 (lay ((s.2 6) 2) (tl f13) f14) (lay ((s.2 6) 2) (hm f13) f15) (lay ((s.2 6) 2) (rg f13) f16) f_3 f18 f19 k0 k25 k33 k34) ∧ (¬ x4 < ((lay ((s.2 6) 2) (rg f13) f16) (lgst (fun x => (lay ((s.2 6) 2) (hm f13) f15) x = x) (lay ((s.2 6) 2) (rg f13) f16) ((s.2 6) 2).toNat)) → HX3_best_62 Q b s x1 x2 x3 x4 x5 (i32 (x6 + 1)) f11 f12 f13 (lay ((s.2 6) 2) (tl f13) f14) (lay ((s.2 6) 2) (hm f13) f15) (lay ((s.2 6) 2) (rg f13) f16) f_3 f18 f19 k0 k25 k33 k34))))))) ∧ (¬ (s.2 6 2) ≤ x7 → (tOK (s.2 6) ∧ (0 ≤ x7 ∧ x7 < (s.2 6) 2) ∧ (0 ≤ x1 ∧ x1 ≤ 3) ∧ 0 ≤ x6 ∧ x6 < 12 ^ (x1).toNat) ∧ ((∀ (f_18 : Int → Int) (f_19 : Int → Int) (k_20 : Int), (0 ≤ x7 ∧ x7 < 10000) ∧ (HX3_best_72 Q b s x1 x2 x3 x4 x5 x6 (i32 (x7 + 1)) f_18 f_19 (upI f13 x7 (rowV (s.2 6) x7 x1 x6)) f14 f15 f16 f17 f18 f19 k0 k_20 k33 k34))))) : HX3_best_72 Q b s x1 x2 x3 x4 x5 x6 x7 f11 f12 f13 f14 f15 f16 f17 f18 f19 k0 k25 k33 k34 := by
  refine JW.iload dX3_best_72 rfl ?_
  refine JW.aload_n dX3_best_74 rfl ?_
  refine JW.mget (v := vR 358) dX3_best_75 fX3_34 rfl ?_
  refine JW.iconst dX3_best_78 rfl ?_
  refine JW.mald 6 (x := (s.2 6 2)) dX3_best_79 (Nat.le_of_ble_eq_true rfl) rfl (by decide) (by decide) rfl ?_
  refine JW.icmp_ge (tgt := 105) dX3_best_80 rfl (fun c_1 => ?_) (fun c_1 => ?_)
  · have K := K.1 c_1
    refine JW.aload_n dX3_best_105 rfl ?_
    obtain ⟨o_2, K⟩ := K
    refine JW.mcall (As := []) dX3_best_106 vX3_goesAll rfl q1871 (ctX3_goesAll b (sS (sS (sS (sS (sA (sA (sA (sA (sA (sA (sA (sA (sA s 11 f11) 12 f12) 13 f13) 14 f14) 15 f15) 16 f16) 17 f17) 18 f18) 19 f19) 0 k0) 25 k25) 33 k33) 34 k34) o_2) (Nat.le_of_ble_eq_true rfl) rfl (Nat.le_of_ble_eq_true rfl) ?_
    rintro _ _ ⟨f_3, rfl, rfl⟩
    refine JW.steq (s2 := sS (sS (sS (sS (sA (sA (sA (sA (sA (sA (sA (sA (sA s 11 f11) 12 f12) 13 f13) 14 (lay ((s.2 6) 2) (tl f13) f14)) 15 (lay ((s.2 6) 2) (hm f13) f15)) 16 (lay ((s.2 6) 2) (rg f13) f16)) 17 f_3) 18 f18) 19 f19) 0 k0) 25 k25) 33 k33) 34 k34) (by simp only [sA_A, sS_S, sA_S, sA_lt, sS_lt, Nat.reduceLT, id_eq] <;> rfl) ?_
    replace K := K f_3
    refine JW.iload_n dX3_best_109 rfl ?_
    refine JW.if_ne (tgt := 125) dX3_best_110 rfl (fun c_5 => ?_) (fun c_5 => ?_)
    · have K := K.1 c_5
      refine JW.iload_n dX3_best_125 rfl ?_
      refine JW.iconst dX3_best_126 rfl ?_
      refine JW.icmp_ne (tgt := 137) dX3_best_127 rfl (fun c_6 => ?_) (fun c_6 => ?_)
      · have K := K.1 c_6
        refine JW.aload_n dX3_best_137 rfl ?_
        obtain ⟨o_7, K⟩ := K
        refine JW.mcall (As := []) dX3_best_138 vX3_mostTail rfl q1924 (ctX3_mostTail b (sS (sS (sS (sS (sA (sA (sA (sA (sA (sA (sA (sA (sA s 11 f11) 12 f12) 13 f13) 14 (lay ((s.2 6) 2) (tl f13) f14)) 15 (lay ((s.2 6) 2) (hm f13) f15)) 16 (lay ((s.2 6) 2) (rg f13) f16)) 17 f_3) 18 f18) 19 f19) 0 k0) 25 k25) 33 k33) 34 k34) o_7) (Nat.le_of_ble_eq_true rfl) rfl (Nat.le_of_ble_eq_true rfl) ?_
        rintro _ _ ⟨rfl, eq_8⟩
        refine JW.steq (s2 := sS (sS (sS (sS (sA (sA (sA (sA (sA (sA (sA (sA (sA s 11 f11) 12 f12) 13 f13) 14 (lay ((s.2 6) 2) (tl f13) f14)) 15 (lay ((s.2 6) 2) (hm f13) f15)) 16 (lay ((s.2 6) 2) (rg f13) f16)) 17 f_3) 18 f18) 19 f19) 0 k0) 25 k25) 33 k33) 34 k34) eq_8 ?_
        refine JW.istore (ls' := [(0, vR 351), (1, vI x1), (2, vI x2), (3, vI x3), (4, vI x4), (5, vI x5), (6, vI x6), (7, vI (maxI 0 (lay ((s.2 6) 2) (tl f13) f14) ((s.2 6) 2).toNat))]) dX3_best_141 (Nat.le_of_ble_eq_true rfl) rfl ?_
        refine JW.iload dX3_best_143 rfl ?_
        refine JW.iload dX3_best_145 rfl ?_
        refine JW.icmp_gt (tgt := 153) dX3_best_147 rfl (fun c_9 => ?_) (fun c_9 => ?_)
        · have K := K.1 c_9
          refine JW.iload dX3_best_153 rfl ?_
          refine JW.istore_n (ls' := [(0, vR 351), (1, vI x1), (2, vI x2), (3, vI x6), (4, vI x4), (5, vI x5), (6, vI x6), (7, vI (maxI 0 (lay ((s.2 6) 2) (tl f13) f14) ((s.2 6) 2).toNat))]) dX3_best_155 (Nat.le_of_ble_eq_true rfl) rfl ?_
          refine JW.iload dX3_best_156 rfl ?_
          refine JW.istore (ls' := [(0, vR 351), (1, vI x1), (2, vI x2), (3, vI x6), (4, vI (maxI 0 (lay ((s.2 6) 2) (tl f13) f14) ((s.2 6) 2).toNat)), (5, vI x5), (6, vI x6), (7, vI (maxI 0 (lay ((s.2 6) 2) (tl f13) f14) ((s.2 6) 2).toNat))]) dX3_best_158 (Nat.le_of_ble_eq_true rfl) rfl ?_
          refine JW.iinc (ls' := [(0, vR 351), (1, vI x1), (2, vI x2), (3, vI x6), (4, vI (maxI 0 (lay ((s.2 6) 2) (tl f13) f14) ((s.2 6) 2).toNat)), (5, vI x5), (6, vI (i32 (x6 + 1))), (7, vI (maxI 0 (lay ((s.2 6) 2) (tl f13) f14) ((s.2 6) 2).toNat))]) dX3_best_160 (Nat.le_of_ble_eq_true rfl) rfl rfl ?_
          refine JW.goto (tgt := 62) dX3_best_163 rfl ?_
          exact JW.pick [0, 1, 2, 3, 4, 5, 6] rfl K
        · have K := K.2 c_9
          refine JW.goto (tgt := 160) dX3_best_150 rfl ?_
          refine JW.iinc (ls' := [(0, vR 351), (1, vI x1), (2, vI x2), (3, vI x3), (4, vI x4), (5, vI x5), (6, vI (i32 (x6 + 1))), (7, vI (maxI 0 (lay ((s.2 6) 2) (tl f13) f14) ((s.2 6) 2).toNat))]) dX3_best_160 (Nat.le_of_ble_eq_true rfl) rfl rfl ?_
          refine JW.goto (tgt := 62) dX3_best_163 rfl ?_
          exact JW.pick [0, 1, 2, 3, 4, 5, 6] rfl K
      · have K := K.2 c_6
        refine JW.aload_n dX3_best_130 rfl ?_
        obtain ⟨o_10, K⟩ := K
        refine JW.mcall (As := []) dX3_best_131 vX3_manyRounds rfl q1895 (ctX3_manyRounds b (sS (sS (sS (sS (sA (sA (sA (sA (sA (sA (sA (sA (sA s 11 f11) 12 f12) 13 f13) 14 (lay ((s.2 6) 2) (tl f13) f14)) 15 (lay ((s.2 6) 2) (hm f13) f15)) 16 (lay ((s.2 6) 2) (rg f13) f16)) 17 f_3) 18 f18) 19 f19) 0 k0) 25 k25) 33 k33) 34 k34) o_10) (Nat.le_of_ble_eq_true rfl) rfl (Nat.le_of_ble_eq_true rfl) ?_
        rintro _ _ ⟨rfl, eq_11⟩
        refine JW.steq (s2 := sS (sS (sS (sS (sA (sA (sA (sA (sA (sA (sA (sA (sA s 11 f11) 12 f12) 13 f13) 14 (lay ((s.2 6) 2) (tl f13) f14)) 15 (lay ((s.2 6) 2) (hm f13) f15)) 16 (lay ((s.2 6) 2) (rg f13) f16)) 17 f_3) 18 f18) 19 f19) 0 k0) 25 k25) 33 k33) 34 k34) eq_11 ?_
        refine JW.goto (tgt := 141) dX3_best_134 rfl ?_
        refine JW.istore (ls' := [(0, vR 351), (1, vI x1), (2, vI x2), (3, vI x3), (4, vI x4), (5, vI x5), (6, vI x6), (7, vI (many (fun x => (lay ((s.2 6) 2) (hm f13) f15) x = x) ((s.2 6) 2).toNat))]) dX3_best_141 (Nat.le_of_ble_eq_true rfl) rfl ?_
        refine JW.iload dX3_best_143 rfl ?_
        refine JW.iload dX3_best_145 rfl ?_
        refine JW.icmp_gt (tgt := 153) dX3_best_147 rfl (fun c_12 => ?_) (fun c_12 => ?_)
        · have K := K.1 c_12
          refine JW.iload dX3_best_153 rfl ?_
          refine JW.istore_n (ls' := [(0, vR 351), (1, vI x1), (2, vI x2), (3, vI x6), (4, vI x4), (5, vI x5), (6, vI x6), (7, vI (many (fun x => (lay ((s.2 6) 2) (hm f13) f15) x = x) ((s.2 6) 2).toNat))]) dX3_best_155 (Nat.le_of_ble_eq_true rfl) rfl ?_
          refine JW.iload dX3_best_156 rfl ?_
          refine JW.istore (ls' := [(0, vR 351), (1, vI x1), (2, vI x2), (3, vI x6), (4, vI (many (fun x => (lay ((s.2 6) 2) (hm f13) f15) x = x) ((s.2 6) 2).toNat)), (5, vI x5), (6, vI x6), (7, vI (many (fun x => (lay ((s.2 6) 2) (hm f13) f15) x = x) ((s.2 6) 2).toNat))]) dX3_best_158 (Nat.le_of_ble_eq_true rfl) rfl ?_
          refine JW.iinc (ls' := [(0, vR 351), (1, vI x1), (2, vI x2), (3, vI x6), (4, vI (many (fun x => (lay ((s.2 6) 2) (hm f13) f15) x = x) ((s.2 6) 2).toNat)), (5, vI x5), (6, vI (i32 (x6 + 1))), (7, vI (many (fun x => (lay ((s.2 6) 2) (hm f13) f15) x = x) ((s.2 6) 2).toNat))]) dX3_best_160 (Nat.le_of_ble_eq_true rfl) rfl rfl ?_
          refine JW.goto (tgt := 62) dX3_best_163 rfl ?_
          exact JW.pick [0, 1, 2, 3, 4, 5, 6] rfl K
        · have K := K.2 c_12
          refine JW.goto (tgt := 160) dX3_best_150 rfl ?_
          refine JW.iinc (ls' := [(0, vR 351), (1, vI x1), (2, vI x2), (3, vI x3), (4, vI x4), (5, vI x5), (6, vI (i32 (x6 + 1))), (7, vI (many (fun x => (lay ((s.2 6) 2) (hm f13) f15) x = x) ((s.2 6) 2).toNat))]) dX3_best_160 (Nat.le_of_ble_eq_true rfl) rfl rfl ?_
          refine JW.goto (tgt := 62) dX3_best_163 rfl ?_
          exact JW.pick [0, 1, 2, 3, 4, 5, 6] rfl K
    · have K := K.2 c_5
      refine JW.aload_n dX3_best_113 rfl ?_
      refine JW.mget (v := vR 368) dX3_best_114 fX3_65 rfl ?_
      refine JW.aload_n dX3_best_117 rfl ?_
      obtain ⟨o_13, K⟩ := K
      refine JW.mcall (As := []) dX3_best_118 vX3_longest rfl q1903 (ctX3_longest b (sS (sS (sS (sS (sA (sA (sA (sA (sA (sA (sA (sA (sA s 11 f11) 12 f12) 13 f13) 14 (lay ((s.2 6) 2) (tl f13) f14)) 15 (lay ((s.2 6) 2) (hm f13) f15)) 16 (lay ((s.2 6) 2) (rg f13) f16)) 17 f_3) 18 f18) 19 f19) 0 k0) 25 k25) 33 k33) 34 k34) o_13) (Nat.le_of_ble_eq_true rfl) rfl (Nat.le_of_ble_eq_true rfl) ?_
      rintro _ _ ⟨rfl, eq_14⟩
      refine JW.steq (s2 := sS (sS (sS (sS (sA (sA (sA (sA (sA (sA (sA (sA (sA s 11 f11) 12 f12) 13 f13) 14 (lay ((s.2 6) 2) (tl f13) f14)) 15 (lay ((s.2 6) 2) (hm f13) f15)) 16 (lay ((s.2 6) 2) (rg f13) f16)) 17 f_3) 18 f18) 19 f19) 0 k0) 25 k25) 33 k33) 34 k34) eq_14 ?_
      obtain ⟨o_15, K⟩ := K
      refine JW.mald 16 (x := ((lay ((s.2 6) 2) (rg f13) f16) (lgst (fun x => (lay ((s.2 6) 2) (hm f13) f15) x = x) (lay ((s.2 6) 2) (rg f13) f16) ((s.2 6) 2).toNat))) dX3_best_121 (Nat.le_of_ble_eq_true rfl) rfl o_15.1 o_15.2 rfl ?_
      refine JW.goto (tgt := 141) dX3_best_122 rfl ?_
      refine JW.istore (ls' := [(0, vR 351), (1, vI x1), (2, vI x2), (3, vI x3), (4, vI x4), (5, vI x5), (6, vI x6), (7, vI ((lay ((s.2 6) 2) (rg f13) f16) (lgst (fun x => (lay ((s.2 6) 2) (hm f13) f15) x = x) (lay ((s.2 6) 2) (rg f13) f16) ((s.2 6) 2).toNat)))]) dX3_best_141 (Nat.le_of_ble_eq_true rfl) rfl ?_
      refine JW.iload dX3_best_143 rfl ?_
      refine JW.iload dX3_best_145 rfl ?_
      refine JW.icmp_gt (tgt := 153) dX3_best_147 rfl (fun c_16 => ?_) (fun c_16 => ?_)
      · have K := K.1 c_16
        refine JW.iload dX3_best_153 rfl ?_
        refine JW.istore_n (ls' := [(0, vR 351), (1, vI x1), (2, vI x2), (3, vI x6), (4, vI x4), (5, vI x5), (6, vI x6), (7, vI ((lay ((s.2 6) 2) (rg f13) f16) (lgst (fun x => (lay ((s.2 6) 2) (hm f13) f15) x = x) (lay ((s.2 6) 2) (rg f13) f16) ((s.2 6) 2).toNat)))]) dX3_best_155 (Nat.le_of_ble_eq_true rfl) rfl ?_
        refine JW.iload dX3_best_156 rfl ?_
        refine JW.istore (ls' := [(0, vR 351), (1, vI x1), (2, vI x2), (3, vI x6), (4, vI ((lay ((s.2 6) 2) (rg f13) f16) (lgst (fun x => (lay ((s.2 6) 2) (hm f13) f15) x = x) (lay ((s.2 6) 2) (rg f13) f16) ((s.2 6) 2).toNat))), (5, vI x5), (6, vI x6), (7, vI ((lay ((s.2 6) 2) (rg f13) f16) (lgst (fun x => (lay ((s.2 6) 2) (hm f13) f15) x = x) (lay ((s.2 6) 2) (rg f13) f16) ((s.2 6) 2).toNat)))]) dX3_best_158 (Nat.le_of_ble_eq_true rfl) rfl ?_
        refine JW.iinc (ls' := [(0, vR 351), (1, vI x1), (2, vI x2), (3, vI x6), (4, vI ((lay ((s.2 6) 2) (rg f13) f16) (lgst (fun x => (lay ((s.2 6) 2) (hm f13) f15) x = x) (lay ((s.2 6) 2) (rg f13) f16) ((s.2 6) 2).toNat))), (5, vI x5), (6, vI (i32 (x6 + 1))), (7, vI ((lay ((s.2 6) 2) (rg f13) f16) (lgst (fun x => (lay ((s.2 6) 2) (hm f13) f15) x = x) (lay ((s.2 6) 2) (rg f13) f16) ((s.2 6) 2).toNat)))]) dX3_best_160 (Nat.le_of_ble_eq_true rfl) rfl rfl ?_
        refine JW.goto (tgt := 62) dX3_best_163 rfl ?_
        exact JW.pick [0, 1, 2, 3, 4, 5, 6] rfl K
      · have K := K.2 c_16
        refine JW.goto (tgt := 160) dX3_best_150 rfl ?_
        refine JW.iinc (ls' := [(0, vR 351), (1, vI x1), (2, vI x2), (3, vI x3), (4, vI x4), (5, vI x5), (6, vI (i32 (x6 + 1))), (7, vI ((lay ((s.2 6) 2) (rg f13) f16) (lgst (fun x => (lay ((s.2 6) 2) (hm f13) f15) x = x) (lay ((s.2 6) 2) (rg f13) f16) ((s.2 6) 2).toNat)))]) dX3_best_160 (Nat.le_of_ble_eq_true rfl) rfl rfl ?_
        refine JW.goto (tgt := 62) dX3_best_163 rfl ?_
        exact JW.pick [0, 1, 2, 3, 4, 5, 6] rfl K
  · have K := K.2 c_1
    refine JW.aload_n dX3_best_83 rfl ?_
    refine JW.mget (v := vR 365) dX3_best_84 fX3_56 rfl ?_
    refine JW.iload dX3_best_87 rfl ?_
    refine JW.aload_n dX3_best_89 rfl ?_
    refine JW.iload dX3_best_90 rfl ?_
    refine JW.iload_n dX3_best_92 rfl ?_
    refine JW.iload dX3_best_93 rfl ?_
    obtain ⟨o_17, K⟩ := K
    refine JW.mcall (As := [vI x7, vI x1, vI x6]) dX3_best_95 vX3_rowed rfl q2061 (ctX3_rowed b (sS (sS (sS (sS (sA (sA (sA (sA (sA (sA (sA (sA (sA s 11 f11) 12 f12) 13 f13) 14 f14) 15 f15) 16 f16) 17 f17) 18 f18) 19 f19) 0 k0) 25 k25) 33 k33) 34 k34) x7 x1 x6 o_17) (Nat.le_of_ble_eq_true rfl) rfl (Nat.le_of_ble_eq_true rfl) ?_
    rintro _ _ ⟨f_18, f_19, k_20, rfl, rfl⟩
    refine JW.steq (s2 := sS (sS (sS (sS (sA (sA (sA (sA (sA (sA (sA (sA (sA s 11 f_18) 12 f_19) 13 f13) 14 f14) 15 f15) 16 f16) 17 f17) 18 f18) 19 f19) 0 k0) 25 k_20) 33 k33) 34 k34) (by simp only [sA_A, sS_S, sA_S, sA_lt, sS_lt, Nat.reduceLT, id_eq] <;> rfl) ?_
    replace K := K f_18 f_19 k_20
    obtain ⟨o_22, K⟩ := K
    refine JW.mast 13 (f := f13) dX3_best_98 (Nat.le_of_ble_eq_true rfl) rfl o_22.1 o_22.2 rfl ?_
    refine JW.steq (s2 := sS (sS (sS (sS (sA (sA (sA (sA (sA (sA (sA (sA (sA s 11 f_18) 12 f_19) 13 (upI f13 x7 (rowV (s.2 6) x7 x1 x6))) 14 f14) 15 f15) 16 f16) 17 f17) 18 f18) 19 f19) 0 k0) 25 k_20) 33 k33) 34 k34) (by simp only [sA_A, sS_S, sA_S, sA_lt, sS_lt, Nat.reduceLT, id_eq] <;> rfl) ?_
    refine JW.iinc (ls' := [(0, vR 351), (1, vI x1), (2, vI x2), (3, vI x3), (4, vI x4), (5, vI x5), (6, vI x6), (7, vI (i32 (x7 + 1)))]) dX3_best_99 (Nat.le_of_ble_eq_true rfl) rfl rfl ?_
    refine JW.goto (tgt := 72) dX3_best_102 rfl ?_
    exact JW.pick [0, 1, 2, 3, 4, 5, 6, 7] rfl K
def QX3_best (s : MS) (a1 : Int) (a2 : Int) : Option AV → MS → Prop := fun v s' => ∃ (f11 : Int → Int) (f12 : Int → Int) (f13 : Int → Int) (f14 : Int → Int) (f15 : Int → Int) (f16 : Int → Int) (f17 : Int → Int) (f18 : Int → Int) (f19 : Int → Int) (k25 : Int) (k33 : Int) (k34 : Int), v = some (vI (rBest ((s.2 5) 0) (s.2 6) a1 a2)) ∧ s' = sS (sS (sS (sS (sA (sA (sA (sA (sA (sA (sA (sA (sA s 11 f11) 12 f12) 13 f13) 14 f14) 15 f15) 16 f16) 17 f17) 18 f18) 19 f19) 0 (0)) 25 k25) 33 k33) 34 k34
theorem vX3_best_1 (s : MS) (a1 : Int) (a2 : Int) (hp : tOK (s.2 6) ∧ lOK ((s.2 5) 0) (s.2 6)) (x1 : Int) (x2 : Int) (x3 : Int) (x4 : Int) (x5 : Int) (x6 : Int) (f11 : Int → Int) (f12 : Int → Int) (f13 : Int → Int) (f14 : Int → Int) (f15 : Int → Int) (f16 : Int → Int) (f17 : Int → Int) (f18 : Int → Int) (f19 : Int → Int) (k0 : Int) (k25 : Int) (k33 : Int) (k34 : Int) (hI : k0 = 0 ∧ (x1 = a1 ∧ x2 = a2 ∧ 0 < s.2 5 0 ∧ 1 ≤ a1 ∧ a1 ≤ 2 ∧ 0 ≤ a2 ∧ a2 ≤ 2) ∧ x5 = 12 ^ a1.toNat ∧ (0 ≤ x6 ∧ x6 ≤ x5) ∧ x3 = (bst (bestW (s.2 6) a1 a2) x6.toNat).1 ∧ x4 = (bst (bestW (s.2 6) a1 a2) x6.toNat).2) (c_1 : x5 ≤ x6) (c_2 : ¬ x1 = 1) : k0 = (0) := by
  obtain ⟨ht, hl⟩ := hp
  have hN := tOK_N ht
  (try simp only [bI_0, bI_n, Classical.not_not] at *)
  (try have hN2 : 0 < s.2 6 2 := lOK_N ht hl (by omega))
  (try have hrn := row_nat (n := a1) (by omega) (by omega))
  (try have hgx := GOx_b (t' := f14) (m' := f15) (r' := f16) (w := a2) hN2 (fun x h0 h1 => hI.2.2.2.2.2.2.2 x h0 (by omega)))
  (try have hb1 := bst_y (f := bestW (s.2 6) a1 a2) (k := x6) (by omega))
  (try have hb2 := bst_n (f := bestW (s.2 6) a1 a2) (k := x6) (by omega))
  (try have hbn := bst_nn (f := bestW (s.2 6) a1 a2) (fun r => worth_nn _ _ _) x6.toNat (by omega))
  (try unfold lex3)
  (try simp only [bI_0, bI_n, Classical.not_not] at *)
  (try simp (disch := omega) only [i32_id] at *)
  first | done | omega | ((repeat' (with_reducible apply And.intro)) <;> first | assumption | rfl | omega | (exact hI.1) | (unfold rBest; rw [if_neg (by omega)]) | (exact fun x h0 h1 => by rw [hI.2.2.2.2.2.2.2 x h0 (by omega)]; exact rowV_b x h0 h1) | (intro z h0 h1; omega) | (exact upto_s (p := fun z v => v = rowV (s.2 6) z a1 x6) hI.2.2.2.2.2.2.2 (by rw [hI.2.1.1])) | (unfold rBest; rw [if_pos (by omega), ← hrn.1, show 12 ^ a1.toNat = x6 by omega, ← hI.2.2.2.2.1]; exact fmt_2 (by omega) (by omega) (by omega)) | (unfold rBest; rw [if_pos (by omega), ← hrn.1, show 12 ^ a1.toNat = x6 by omega, ← hI.2.2.2.2.1]; exact (fmt_1 (by omega)).symm) | (rw [hI.2.1.1, ← hI.2.2.1]; omega) | grind [upI])
theorem vX3_best_2 (s : MS) (a1 : Int) (a2 : Int) (hp : tOK (s.2 6) ∧ lOK ((s.2 5) 0) (s.2 6)) (x1 : Int) (x2 : Int) (x3 : Int) (x4 : Int) (x5 : Int) (x6 : Int) (f11 : Int → Int) (f12 : Int → Int) (f13 : Int → Int) (f14 : Int → Int) (f15 : Int → Int) (f16 : Int → Int) (f17 : Int → Int) (f18 : Int → Int) (f19 : Int → Int) (k0 : Int) (k25 : Int) (k33 : Int) (k34 : Int) (hI : k0 = 0 ∧ (x1 = a1 ∧ x2 = a2 ∧ 0 < s.2 5 0 ∧ 1 ≤ a1 ∧ a1 ≤ 2 ∧ 0 ≤ a2 ∧ a2 ≤ 2) ∧ x5 = 12 ^ a1.toNat ∧ (0 ≤ x6 ∧ x6 ≤ x5) ∧ x3 = (bst (bestW (s.2 6) a1 a2) x6.toNat).1 ∧ x4 = (bst (bestW (s.2 6) a1 a2) x6.toNat).2) (c_1 : x5 ≤ x6) (c_2 : ¬ x1 = 1) : (i32 ((i32 (100 * (i32 (Int.tdiv x3 12)))) + (i32 (Int.tmod x3 12)))) = (rBest ((s.2 5) 0) (s.2 6) a1 a2) := by
  obtain ⟨ht, hl⟩ := hp
  have hN := tOK_N ht
  (try simp only [bI_0, bI_n, Classical.not_not] at *)
  (try have hN2 : 0 < s.2 6 2 := lOK_N ht hl (by omega))
  (try have hrn := row_nat (n := a1) (by omega) (by omega))
  (try have hgx := GOx_b (t' := f14) (m' := f15) (r' := f16) (w := a2) hN2 (fun x h0 h1 => hI.2.2.2.2.2.2.2 x h0 (by omega)))
  (try have hb1 := bst_y (f := bestW (s.2 6) a1 a2) (k := x6) (by omega))
  (try have hb2 := bst_n (f := bestW (s.2 6) a1 a2) (k := x6) (by omega))
  (try have hbn := bst_nn (f := bestW (s.2 6) a1 a2) (fun r => worth_nn _ _ _) x6.toNat (by omega))
  (try unfold lex3)
  (try simp only [bI_0, bI_n, Classical.not_not] at *)
  (try simp (disch := omega) only [i32_id] at *)
  first | done | omega | ((repeat' (with_reducible apply And.intro)) <;> first | assumption | rfl | omega | (exact hI.1) | (unfold rBest; rw [if_neg (by omega)]) | (exact fun x h0 h1 => by rw [hI.2.2.2.2.2.2.2 x h0 (by omega)]; exact rowV_b x h0 h1) | (intro z h0 h1; omega) | (exact upto_s (p := fun z v => v = rowV (s.2 6) z a1 x6) hI.2.2.2.2.2.2.2 (by rw [hI.2.1.1])) | (unfold rBest; rw [if_pos (by omega), ← hrn.1, show 12 ^ a1.toNat = x6 by omega, ← hI.2.2.2.2.1]; exact fmt_2 (by omega) (by omega) (by omega)) | (unfold rBest; rw [if_pos (by omega), ← hrn.1, show 12 ^ a1.toNat = x6 by omega, ← hI.2.2.2.2.1]; exact (fmt_1 (by omega)).symm) | (rw [hI.2.1.1, ← hI.2.2.1]; omega) | grind [upI])
theorem vX3_best_3 (s : MS) (a1 : Int) (a2 : Int) (hp : tOK (s.2 6) ∧ lOK ((s.2 5) 0) (s.2 6)) (x1 : Int) (x2 : Int) (x3 : Int) (x4 : Int) (x5 : Int) (x6 : Int) (f11 : Int → Int) (f12 : Int → Int) (f13 : Int → Int) (f14 : Int → Int) (f15 : Int → Int) (f16 : Int → Int) (f17 : Int → Int) (f18 : Int → Int) (f19 : Int → Int) (k0 : Int) (k25 : Int) (k33 : Int) (k34 : Int) (hI : k0 = 0 ∧ (x1 = a1 ∧ x2 = a2 ∧ 0 < s.2 5 0 ∧ 1 ≤ a1 ∧ a1 ≤ 2 ∧ 0 ≤ a2 ∧ a2 ≤ 2) ∧ x5 = 12 ^ a1.toNat ∧ (0 ≤ x6 ∧ x6 ≤ x5) ∧ x3 = (bst (bestW (s.2 6) a1 a2) x6.toNat).1 ∧ x4 = (bst (bestW (s.2 6) a1 a2) x6.toNat).2) (c_1 : x5 ≤ x6) (c_2 : x1 = 1) : k0 = (0) := by
  obtain ⟨ht, hl⟩ := hp
  have hN := tOK_N ht
  (try simp only [bI_0, bI_n, Classical.not_not] at *)
  (try have hN2 : 0 < s.2 6 2 := lOK_N ht hl (by omega))
  (try have hrn := row_nat (n := a1) (by omega) (by omega))
  (try have hgx := GOx_b (t' := f14) (m' := f15) (r' := f16) (w := a2) hN2 (fun x h0 h1 => hI.2.2.2.2.2.2.2 x h0 (by omega)))
  (try have hb1 := bst_y (f := bestW (s.2 6) a1 a2) (k := x6) (by omega))
  (try have hb2 := bst_n (f := bestW (s.2 6) a1 a2) (k := x6) (by omega))
  (try have hbn := bst_nn (f := bestW (s.2 6) a1 a2) (fun r => worth_nn _ _ _) x6.toNat (by omega))
  (try unfold lex3)
  (try simp only [bI_0, bI_n, Classical.not_not] at *)
  (try simp (disch := omega) only [i32_id] at *)
  first | done | omega | ((repeat' (with_reducible apply And.intro)) <;> first | assumption | rfl | omega | (exact hI.1) | (unfold rBest; rw [if_neg (by omega)]) | (exact fun x h0 h1 => by rw [hI.2.2.2.2.2.2.2 x h0 (by omega)]; exact rowV_b x h0 h1) | (intro z h0 h1; omega) | (exact upto_s (p := fun z v => v = rowV (s.2 6) z a1 x6) hI.2.2.2.2.2.2.2 (by rw [hI.2.1.1])) | (unfold rBest; rw [if_pos (by omega), ← hrn.1, show 12 ^ a1.toNat = x6 by omega, ← hI.2.2.2.2.1]; exact fmt_2 (by omega) (by omega) (by omega)) | (unfold rBest; rw [if_pos (by omega), ← hrn.1, show 12 ^ a1.toNat = x6 by omega, ← hI.2.2.2.2.1]; exact (fmt_1 (by omega)).symm) | (rw [hI.2.1.1, ← hI.2.2.1]; omega) | grind [upI])
theorem vX3_best_4 (s : MS) (a1 : Int) (a2 : Int) (hp : tOK (s.2 6) ∧ lOK ((s.2 5) 0) (s.2 6)) (x1 : Int) (x2 : Int) (x3 : Int) (x4 : Int) (x5 : Int) (x6 : Int) (f11 : Int → Int) (f12 : Int → Int) (f13 : Int → Int) (f14 : Int → Int) (f15 : Int → Int) (f16 : Int → Int) (f17 : Int → Int) (f18 : Int → Int) (f19 : Int → Int) (k0 : Int) (k25 : Int) (k33 : Int) (k34 : Int) (hI : k0 = 0 ∧ (x1 = a1 ∧ x2 = a2 ∧ 0 < s.2 5 0 ∧ 1 ≤ a1 ∧ a1 ≤ 2 ∧ 0 ≤ a2 ∧ a2 ≤ 2) ∧ x5 = 12 ^ a1.toNat ∧ (0 ≤ x6 ∧ x6 ≤ x5) ∧ x3 = (bst (bestW (s.2 6) a1 a2) x6.toNat).1 ∧ x4 = (bst (bestW (s.2 6) a1 a2) x6.toNat).2) (c_1 : x5 ≤ x6) (c_2 : x1 = 1) : x3 = (rBest ((s.2 5) 0) (s.2 6) a1 a2) := by
  obtain ⟨ht, hl⟩ := hp
  have hN := tOK_N ht
  (try simp only [bI_0, bI_n, Classical.not_not] at *)
  (try have hN2 : 0 < s.2 6 2 := lOK_N ht hl (by omega))
  (try have hrn := row_nat (n := a1) (by omega) (by omega))
  (try have hgx := GOx_b (t' := f14) (m' := f15) (r' := f16) (w := a2) hN2 (fun x h0 h1 => hI.2.2.2.2.2.2.2 x h0 (by omega)))
  (try have hb1 := bst_y (f := bestW (s.2 6) a1 a2) (k := x6) (by omega))
  (try have hb2 := bst_n (f := bestW (s.2 6) a1 a2) (k := x6) (by omega))
  (try have hbn := bst_nn (f := bestW (s.2 6) a1 a2) (fun r => worth_nn _ _ _) x6.toNat (by omega))
  (try unfold lex3)
  (try simp only [bI_0, bI_n, Classical.not_not] at *)
  (try simp (disch := omega) only [i32_id] at *)
  first | done | omega | ((repeat' (with_reducible apply And.intro)) <;> first | assumption | rfl | omega | (exact hI.1) | (unfold rBest; rw [if_neg (by omega)]) | (exact fun x h0 h1 => by rw [hI.2.2.2.2.2.2.2 x h0 (by omega)]; exact rowV_b x h0 h1) | (intro z h0 h1; omega) | (exact upto_s (p := fun z v => v = rowV (s.2 6) z a1 x6) hI.2.2.2.2.2.2.2 (by rw [hI.2.1.1])) | (unfold rBest; rw [if_pos (by omega), ← hrn.1, show 12 ^ a1.toNat = x6 by omega, ← hI.2.2.2.2.1]; exact fmt_2 (by omega) (by omega) (by omega)) | (unfold rBest; rw [if_pos (by omega), ← hrn.1, show 12 ^ a1.toNat = x6 by omega, ← hI.2.2.2.2.1]; exact (fmt_1 (by omega)).symm) | (rw [hI.2.1.1, ← hI.2.2.1]; omega) | grind [upI])
theorem vX3_best_5 (s : MS) (a1 : Int) (a2 : Int) (hp : tOK (s.2 6) ∧ lOK ((s.2 5) 0) (s.2 6)) (x1 : Int) (x2 : Int) (x3 : Int) (x4 : Int) (x5 : Int) (x6 : Int) (f11 : Int → Int) (f12 : Int → Int) (f13 : Int → Int) (f14 : Int → Int) (f15 : Int → Int) (f16 : Int → Int) (f17 : Int → Int) (f18 : Int → Int) (f19 : Int → Int) (k0 : Int) (k25 : Int) (k33 : Int) (k34 : Int) (hI : k0 = 0 ∧ (x1 = a1 ∧ x2 = a2 ∧ 0 < s.2 5 0 ∧ 1 ≤ a1 ∧ a1 ≤ 2 ∧ 0 ≤ a2 ∧ a2 ≤ 2) ∧ x5 = 12 ^ a1.toNat ∧ (0 ≤ x6 ∧ x6 ≤ x5) ∧ x3 = (bst (bestW (s.2 6) a1 a2) x6.toNat).1 ∧ x4 = (bst (bestW (s.2 6) a1 a2) x6.toNat).2) (c_1 : ¬ x5 ≤ x6) : k0 = 0 ∧ (x1 = a1 ∧ x2 = a2 ∧ 0 < s.2 5 0 ∧ 1 ≤ a1 ∧ a1 ≤ 2 ∧ 0 ≤ a2 ∧ a2 ≤ 2) ∧ x5 = 12 ^ a1.toNat ∧ (0 ≤ x6 ∧ x6 < x5) ∧ x3 = (bst (bestW (s.2 6) a1 a2) x6.toNat).1 ∧ x4 = (bst (bestW (s.2 6) a1 a2) x6.toNat).2 ∧ (0 ≤ (0 : Int) ∧ (0 : Int) ≤ s.2 6 2) ∧ ∀ z : Int, 0 ≤ z → z < (0 : Int) → f13 z = rowV (s.2 6) z a1 x6 := by
  obtain ⟨ht, hl⟩ := hp
  have hN := tOK_N ht
  (try simp only [bI_0, bI_n, Classical.not_not] at *)
  (try have hN2 : 0 < s.2 6 2 := lOK_N ht hl (by omega))
  (try have hrn := row_nat (n := a1) (by omega) (by omega))
  (try have hgx := GOx_b (t' := f14) (m' := f15) (r' := f16) (w := a2) hN2 (fun x h0 h1 => hI.2.2.2.2.2.2.2 x h0 (by omega)))
  (try have hb1 := bst_y (f := bestW (s.2 6) a1 a2) (k := x6) (by omega))
  (try have hb2 := bst_n (f := bestW (s.2 6) a1 a2) (k := x6) (by omega))
  (try have hbn := bst_nn (f := bestW (s.2 6) a1 a2) (fun r => worth_nn _ _ _) x6.toNat (by omega))
  (try unfold lex3)
  (try simp only [bI_0, bI_n, Classical.not_not] at *)
  (try simp (disch := omega) only [i32_id] at *)
  first | done | omega | ((repeat' (with_reducible apply And.intro)) <;> first | assumption | rfl | omega | (exact hI.1) | (unfold rBest; rw [if_neg (by omega)]) | (exact fun x h0 h1 => by rw [hI.2.2.2.2.2.2.2 x h0 (by omega)]; exact rowV_b x h0 h1) | (intro z h0 h1; omega) | (exact upto_s (p := fun z v => v = rowV (s.2 6) z a1 x6) hI.2.2.2.2.2.2.2 (by rw [hI.2.1.1])) | (unfold rBest; rw [if_pos (by omega), ← hrn.1, show 12 ^ a1.toNat = x6 by omega, ← hI.2.2.2.2.1]; exact fmt_2 (by omega) (by omega) (by omega)) | (unfold rBest; rw [if_pos (by omega), ← hrn.1, show 12 ^ a1.toNat = x6 by omega, ← hI.2.2.2.2.1]; exact (fmt_1 (by omega)).symm) | (rw [hI.2.1.1, ← hI.2.2.1]; omega) | grind [upI])
theorem vX3_best_6 (s : MS) (a1 : Int) (a2 : Int) (hp : tOK (s.2 6) ∧ lOK ((s.2 5) 0) (s.2 6)) (x1 : Int) (x2 : Int) (x3 : Int) (x4 : Int) (x5 : Int) (x6 : Int) (f11 : Int → Int) (f12 : Int → Int) (f13 : Int → Int) (f14 : Int → Int) (f15 : Int → Int) (f16 : Int → Int) (f17 : Int → Int) (f18 : Int → Int) (f19 : Int → Int) (k0 : Int) (k25 : Int) (k33 : Int) (k34 : Int) (hI : k0 = 0 ∧ (x1 = a1 ∧ x2 = a2 ∧ 0 < s.2 5 0 ∧ 1 ≤ a1 ∧ a1 ≤ 2 ∧ 0 ≤ a2 ∧ a2 ≤ 2) ∧ x5 = 12 ^ a1.toNat ∧ (0 ≤ x6 ∧ x6 ≤ x5) ∧ x3 = (bst (bestW (s.2 6) a1 a2) x6.toNat).1 ∧ x4 = (bst (bestW (s.2 6) a1 a2) x6.toNat).2) (c_1 : ¬ x5 ≤ x6) : lex3 0 ((x5 - x6).toNat - 1) ((s.2 6 2 - (0 : Int)).toNat + 1) 0 ((x5 - x6).toNat) 0 := by
  obtain ⟨ht, hl⟩ := hp
  have hN := tOK_N ht
  (try simp only [bI_0, bI_n, Classical.not_not] at *)
  (try have hN2 : 0 < s.2 6 2 := lOK_N ht hl (by omega))
  (try have hrn := row_nat (n := a1) (by omega) (by omega))
  (try have hgx := GOx_b (t' := f14) (m' := f15) (r' := f16) (w := a2) hN2 (fun x h0 h1 => hI.2.2.2.2.2.2.2 x h0 (by omega)))
  (try have hb1 := bst_y (f := bestW (s.2 6) a1 a2) (k := x6) (by omega))
  (try have hb2 := bst_n (f := bestW (s.2 6) a1 a2) (k := x6) (by omega))
  (try have hbn := bst_nn (f := bestW (s.2 6) a1 a2) (fun r => worth_nn _ _ _) x6.toNat (by omega))
  (try unfold lex3)
  (try simp only [bI_0, bI_n, Classical.not_not] at *)
  (try simp (disch := omega) only [i32_id] at *)
  first | done | omega | ((repeat' (with_reducible apply And.intro)) <;> first | assumption | rfl | omega | (exact hI.1) | (unfold rBest; rw [if_neg (by omega)]) | (exact fun x h0 h1 => by rw [hI.2.2.2.2.2.2.2 x h0 (by omega)]; exact rowV_b x h0 h1) | (intro z h0 h1; omega) | (exact upto_s (p := fun z v => v = rowV (s.2 6) z a1 x6) hI.2.2.2.2.2.2.2 (by rw [hI.2.1.1])) | (unfold rBest; rw [if_pos (by omega), ← hrn.1, show 12 ^ a1.toNat = x6 by omega, ← hI.2.2.2.2.1]; exact fmt_2 (by omega) (by omega) (by omega)) | (unfold rBest; rw [if_pos (by omega), ← hrn.1, show 12 ^ a1.toNat = x6 by omega, ← hI.2.2.2.2.1]; exact (fmt_1 (by omega)).symm) | (rw [hI.2.1.1, ← hI.2.2.1]; omega) | grind [upI])
theorem vX3_best_7 (s : MS) (a1 : Int) (a2 : Int) (hp : tOK (s.2 6) ∧ lOK ((s.2 5) 0) (s.2 6)) (x1 : Int) (x2 : Int) (x3 : Int) (x4 : Int) (x5 : Int) (x6 : Int) (x7 : Int) (f11 : Int → Int) (f12 : Int → Int) (f13 : Int → Int) (f14 : Int → Int) (f15 : Int → Int) (f16 : Int → Int) (f17 : Int → Int) (f18 : Int → Int) (f19 : Int → Int) (k0 : Int) (k25 : Int) (k33 : Int) (k34 : Int) (hI : k0 = 0 ∧ (x1 = a1 ∧ x2 = a2 ∧ 0 < s.2 5 0 ∧ 1 ≤ a1 ∧ a1 ≤ 2 ∧ 0 ≤ a2 ∧ a2 ≤ 2) ∧ x5 = 12 ^ a1.toNat ∧ (0 ≤ x6 ∧ x6 < x5) ∧ x3 = (bst (bestW (s.2 6) a1 a2) x6.toNat).1 ∧ x4 = (bst (bestW (s.2 6) a1 a2) x6.toNat).2 ∧ (0 ≤ x7 ∧ x7 ≤ s.2 6 2) ∧ ∀ z : Int, 0 ≤ z → z < x7 → f13 z = rowV (s.2 6) z a1 x6) (c_1 : (s.2 6 2) ≤ x7) : (rng f13 ((s.2 6) 2) ∧ 0 ≤ (s.2 6) 2 ∧ (s.2 6) 2 ≤ 10000) := by
  obtain ⟨ht, hl⟩ := hp
  have hN := tOK_N ht
  (try simp only [bI_0, bI_n, Classical.not_not] at *)
  (try have hN2 : 0 < s.2 6 2 := lOK_N ht hl (by omega))
  (try have hrn := row_nat (n := a1) (by omega) (by omega))
  (try have hgx := GOx_b (t' := f14) (m' := f15) (r' := f16) (w := a2) hN2 (fun x h0 h1 => hI.2.2.2.2.2.2.2 x h0 (by omega)))
  (try have hb1 := bst_y (f := bestW (s.2 6) a1 a2) (k := x6) (by omega))
  (try have hb2 := bst_n (f := bestW (s.2 6) a1 a2) (k := x6) (by omega))
  (try have hbn := bst_nn (f := bestW (s.2 6) a1 a2) (fun r => worth_nn _ _ _) x6.toNat (by omega))
  (try unfold lex3)
  (try simp only [bI_0, bI_n, Classical.not_not] at *)
  (try simp (disch := omega) only [i32_id] at *)
  first | done | omega | ((repeat' (with_reducible apply And.intro)) <;> first | assumption | rfl | omega | (exact hI.1) | (unfold rBest; rw [if_neg (by omega)]) | (exact fun x h0 h1 => by rw [hI.2.2.2.2.2.2.2 x h0 (by omega)]; exact rowV_b x h0 h1) | (intro z h0 h1; omega) | (exact upto_s (p := fun z v => v = rowV (s.2 6) z a1 x6) hI.2.2.2.2.2.2.2 (by rw [hI.2.1.1])) | (unfold rBest; rw [if_pos (by omega), ← hrn.1, show 12 ^ a1.toNat = x6 by omega, ← hI.2.2.2.2.1]; exact fmt_2 (by omega) (by omega) (by omega)) | (unfold rBest; rw [if_pos (by omega), ← hrn.1, show 12 ^ a1.toNat = x6 by omega, ← hI.2.2.2.2.1]; exact (fmt_1 (by omega)).symm) | (rw [hI.2.1.1, ← hI.2.2.1]; omega) | grind [upI])
theorem vX3_best_8 (s : MS) (a1 : Int) (a2 : Int) (hp : tOK (s.2 6) ∧ lOK ((s.2 5) 0) (s.2 6)) (x1 : Int) (x2 : Int) (x3 : Int) (x4 : Int) (x5 : Int) (x6 : Int) (x7 : Int) (f11 : Int → Int) (f12 : Int → Int) (f13 : Int → Int) (f14 : Int → Int) (f15 : Int → Int) (f16 : Int → Int) (f17 : Int → Int) (f18 : Int → Int) (f19 : Int → Int) (k0 : Int) (k25 : Int) (k33 : Int) (k34 : Int) (hI : k0 = 0 ∧ (x1 = a1 ∧ x2 = a2 ∧ 0 < s.2 5 0 ∧ 1 ≤ a1 ∧ a1 ≤ 2 ∧ 0 ≤ a2 ∧ a2 ≤ 2) ∧ x5 = 12 ^ a1.toNat ∧ (0 ≤ x6 ∧ x6 < x5) ∧ x3 = (bst (bestW (s.2 6) a1 a2) x6.toNat).1 ∧ x4 = (bst (bestW (s.2 6) a1 a2) x6.toNat).2 ∧ (0 ≤ x7 ∧ x7 ≤ s.2 6 2) ∧ ∀ z : Int, 0 ≤ z → z < x7 → f13 z = rowV (s.2 6) z a1 x6) (c_1 : (s.2 6 2) ≤ x7) (o_2 : (rng f13 ((s.2 6) 2) ∧ 0 ≤ (s.2 6) 2 ∧ (s.2 6) 2 ≤ 10000)) (f_3 : Int → Int) (c_5 : ¬ x2 = 0) (c_6 : ¬ x2 = 1) : (tOK (s.2 6)) := by
  obtain ⟨ht, hl⟩ := hp
  have hN := tOK_N ht
  (try simp only [bI_0, bI_n, Classical.not_not] at *)
  (try have hN2 : 0 < s.2 6 2 := lOK_N ht hl (by omega))
  (try have hrn := row_nat (n := a1) (by omega) (by omega))
  (try have hgx := GOx_b (t' := f14) (m' := f15) (r' := f16) (w := a2) hN2 (fun x h0 h1 => hI.2.2.2.2.2.2.2 x h0 (by omega)))
  (try have hb1 := bst_y (f := bestW (s.2 6) a1 a2) (k := x6) (by omega))
  (try have hb2 := bst_n (f := bestW (s.2 6) a1 a2) (k := x6) (by omega))
  (try have hbn := bst_nn (f := bestW (s.2 6) a1 a2) (fun r => worth_nn _ _ _) x6.toNat (by omega))
  (try unfold lex3)
  (try simp only [bI_0, bI_n, Classical.not_not] at *)
  (try simp (disch := omega) only [i32_id] at *)
  first | done | omega | ((repeat' (with_reducible apply And.intro)) <;> first | assumption | rfl | omega | (exact hI.1) | (unfold rBest; rw [if_neg (by omega)]) | (exact fun x h0 h1 => by rw [hI.2.2.2.2.2.2.2 x h0 (by omega)]; exact rowV_b x h0 h1) | (intro z h0 h1; omega) | (exact upto_s (p := fun z v => v = rowV (s.2 6) z a1 x6) hI.2.2.2.2.2.2.2 (by rw [hI.2.1.1])) | (unfold rBest; rw [if_pos (by omega), ← hrn.1, show 12 ^ a1.toNat = x6 by omega, ← hI.2.2.2.2.1]; exact fmt_2 (by omega) (by omega) (by omega)) | (unfold rBest; rw [if_pos (by omega), ← hrn.1, show 12 ^ a1.toNat = x6 by omega, ← hI.2.2.2.2.1]; exact (fmt_1 (by omega)).symm) | (rw [hI.2.1.1, ← hI.2.2.1]; omega) | grind [upI])
theorem vX3_best_9 (s : MS) (a1 : Int) (a2 : Int) (hp : tOK (s.2 6) ∧ lOK ((s.2 5) 0) (s.2 6)) (x1 : Int) (x2 : Int) (x3 : Int) (x4 : Int) (x5 : Int) (x6 : Int) (x7 : Int) (f11 : Int → Int) (f12 : Int → Int) (f13 : Int → Int) (f14 : Int → Int) (f15 : Int → Int) (f16 : Int → Int) (f17 : Int → Int) (f18 : Int → Int) (f19 : Int → Int) (k0 : Int) (k25 : Int) (k33 : Int) (k34 : Int) (hI : k0 = 0 ∧ (x1 = a1 ∧ x2 = a2 ∧ 0 < s.2 5 0 ∧ 1 ≤ a1 ∧ a1 ≤ 2 ∧ 0 ≤ a2 ∧ a2 ≤ 2) ∧ x5 = 12 ^ a1.toNat ∧ (0 ≤ x6 ∧ x6 < x5) ∧ x3 = (bst (bestW (s.2 6) a1 a2) x6.toNat).1 ∧ x4 = (bst (bestW (s.2 6) a1 a2) x6.toNat).2 ∧ (0 ≤ x7 ∧ x7 ≤ s.2 6 2) ∧ ∀ z : Int, 0 ≤ z → z < x7 → f13 z = rowV (s.2 6) z a1 x6) (c_1 : (s.2 6 2) ≤ x7) (o_2 : (rng f13 ((s.2 6) 2) ∧ 0 ≤ (s.2 6) 2 ∧ (s.2 6) 2 ≤ 10000)) (f_3 : Int → Int) (c_5 : ¬ x2 = 0) (c_6 : ¬ x2 = 1) (o_7 : (tOK (s.2 6))) (c_9 : x4 < (maxI 0 (lay ((s.2 6) 2) (tl f13) f14) ((s.2 6) 2).toNat)) : k0 = 0 ∧ (x1 = a1 ∧ x2 = a2 ∧ 0 < s.2 5 0 ∧ 1 ≤ a1 ∧ a1 ≤ 2 ∧ 0 ≤ a2 ∧ a2 ≤ 2) ∧ x5 = 12 ^ a1.toNat ∧ (0 ≤ (i32 (x6 + 1)) ∧ (i32 (x6 + 1)) ≤ x5) ∧ x6 = (bst (bestW (s.2 6) a1 a2) (i32 (x6 + 1)).toNat).1 ∧ (maxI 0 (lay ((s.2 6) 2) (tl f13) f14) ((s.2 6) 2).toNat) = (bst (bestW (s.2 6) a1 a2) (i32 (x6 + 1)).toNat).2 := by
  obtain ⟨ht, hl⟩ := hp
  have hN := tOK_N ht
  (try simp only [bI_0, bI_n, Classical.not_not] at *)
  (try have hN2 : 0 < s.2 6 2 := lOK_N ht hl (by omega))
  (try have hrn := row_nat (n := a1) (by omega) (by omega))
  (try have hgx := GOx_b (t' := f14) (m' := f15) (r' := f16) (w := a2) hN2 (fun x h0 h1 => hI.2.2.2.2.2.2.2 x h0 (by omega)))
  (try have hb1 := bst_y (f := bestW (s.2 6) a1 a2) (k := x6) (by omega))
  (try have hb2 := bst_n (f := bestW (s.2 6) a1 a2) (k := x6) (by omega))
  (try have hbn := bst_nn (f := bestW (s.2 6) a1 a2) (fun r => worth_nn _ _ _) x6.toNat (by omega))
  (try unfold lex3)
  (try simp only [bI_0, bI_n, Classical.not_not] at *)
  (try simp (disch := omega) only [i32_id] at *)
  first | done | omega | ((repeat' (with_reducible apply And.intro)) <;> first | assumption | rfl | omega | (exact hI.1) | (unfold rBest; rw [if_neg (by omega)]) | (exact fun x h0 h1 => by rw [hI.2.2.2.2.2.2.2 x h0 (by omega)]; exact rowV_b x h0 h1) | (intro z h0 h1; omega) | (exact upto_s (p := fun z v => v = rowV (s.2 6) z a1 x6) hI.2.2.2.2.2.2.2 (by rw [hI.2.1.1])) | (unfold rBest; rw [if_pos (by omega), ← hrn.1, show 12 ^ a1.toNat = x6 by omega, ← hI.2.2.2.2.1]; exact fmt_2 (by omega) (by omega) (by omega)) | (unfold rBest; rw [if_pos (by omega), ← hrn.1, show 12 ^ a1.toNat = x6 by omega, ← hI.2.2.2.2.1]; exact (fmt_1 (by omega)).symm) | (rw [hI.2.1.1, ← hI.2.2.1]; omega) | grind [upI])
theorem vX3_best_10 (s : MS) (a1 : Int) (a2 : Int) (hp : tOK (s.2 6) ∧ lOK ((s.2 5) 0) (s.2 6)) (x1 : Int) (x2 : Int) (x3 : Int) (x4 : Int) (x5 : Int) (x6 : Int) (x7 : Int) (f11 : Int → Int) (f12 : Int → Int) (f13 : Int → Int) (f14 : Int → Int) (f15 : Int → Int) (f16 : Int → Int) (f17 : Int → Int) (f18 : Int → Int) (f19 : Int → Int) (k0 : Int) (k25 : Int) (k33 : Int) (k34 : Int) (hI : k0 = 0 ∧ (x1 = a1 ∧ x2 = a2 ∧ 0 < s.2 5 0 ∧ 1 ≤ a1 ∧ a1 ≤ 2 ∧ 0 ≤ a2 ∧ a2 ≤ 2) ∧ x5 = 12 ^ a1.toNat ∧ (0 ≤ x6 ∧ x6 < x5) ∧ x3 = (bst (bestW (s.2 6) a1 a2) x6.toNat).1 ∧ x4 = (bst (bestW (s.2 6) a1 a2) x6.toNat).2 ∧ (0 ≤ x7 ∧ x7 ≤ s.2 6 2) ∧ ∀ z : Int, 0 ≤ z → z < x7 → f13 z = rowV (s.2 6) z a1 x6) (c_1 : (s.2 6 2) ≤ x7) (o_2 : (rng f13 ((s.2 6) 2) ∧ 0 ≤ (s.2 6) 2 ∧ (s.2 6) 2 ≤ 10000)) (f_3 : Int → Int) (c_5 : ¬ x2 = 0) (c_6 : ¬ x2 = 1) (o_7 : (tOK (s.2 6))) (c_9 : x4 < (maxI 0 (lay ((s.2 6) 2) (tl f13) f14) ((s.2 6) 2).toNat)) : lex3 0 ((x5 - (i32 (x6 + 1))).toNat) 0 0 ((x5 - x6).toNat - 1) ((s.2 6 2 - x7).toNat + 1) := by
  obtain ⟨ht, hl⟩ := hp
  have hN := tOK_N ht
  (try simp only [bI_0, bI_n, Classical.not_not] at *)
  (try have hN2 : 0 < s.2 6 2 := lOK_N ht hl (by omega))
  (try have hrn := row_nat (n := a1) (by omega) (by omega))
  (try have hgx := GOx_b (t' := f14) (m' := f15) (r' := f16) (w := a2) hN2 (fun x h0 h1 => hI.2.2.2.2.2.2.2 x h0 (by omega)))
  (try have hb1 := bst_y (f := bestW (s.2 6) a1 a2) (k := x6) (by omega))
  (try have hb2 := bst_n (f := bestW (s.2 6) a1 a2) (k := x6) (by omega))
  (try have hbn := bst_nn (f := bestW (s.2 6) a1 a2) (fun r => worth_nn _ _ _) x6.toNat (by omega))
  (try unfold lex3)
  (try simp only [bI_0, bI_n, Classical.not_not] at *)
  (try simp (disch := omega) only [i32_id] at *)
  first | done | omega | ((repeat' (with_reducible apply And.intro)) <;> first | assumption | rfl | omega | (exact hI.1) | (unfold rBest; rw [if_neg (by omega)]) | (exact fun x h0 h1 => by rw [hI.2.2.2.2.2.2.2 x h0 (by omega)]; exact rowV_b x h0 h1) | (intro z h0 h1; omega) | (exact upto_s (p := fun z v => v = rowV (s.2 6) z a1 x6) hI.2.2.2.2.2.2.2 (by rw [hI.2.1.1])) | (unfold rBest; rw [if_pos (by omega), ← hrn.1, show 12 ^ a1.toNat = x6 by omega, ← hI.2.2.2.2.1]; exact fmt_2 (by omega) (by omega) (by omega)) | (unfold rBest; rw [if_pos (by omega), ← hrn.1, show 12 ^ a1.toNat = x6 by omega, ← hI.2.2.2.2.1]; exact (fmt_1 (by omega)).symm) | (rw [hI.2.1.1, ← hI.2.2.1]; omega) | grind [upI])
theorem vX3_best_11 (s : MS) (a1 : Int) (a2 : Int) (hp : tOK (s.2 6) ∧ lOK ((s.2 5) 0) (s.2 6)) (x1 : Int) (x2 : Int) (x3 : Int) (x4 : Int) (x5 : Int) (x6 : Int) (x7 : Int) (f11 : Int → Int) (f12 : Int → Int) (f13 : Int → Int) (f14 : Int → Int) (f15 : Int → Int) (f16 : Int → Int) (f17 : Int → Int) (f18 : Int → Int) (f19 : Int → Int) (k0 : Int) (k25 : Int) (k33 : Int) (k34 : Int) (hI : k0 = 0 ∧ (x1 = a1 ∧ x2 = a2 ∧ 0 < s.2 5 0 ∧ 1 ≤ a1 ∧ a1 ≤ 2 ∧ 0 ≤ a2 ∧ a2 ≤ 2) ∧ x5 = 12 ^ a1.toNat ∧ (0 ≤ x6 ∧ x6 < x5) ∧ x3 = (bst (bestW (s.2 6) a1 a2) x6.toNat).1 ∧ x4 = (bst (bestW (s.2 6) a1 a2) x6.toNat).2 ∧ (0 ≤ x7 ∧ x7 ≤ s.2 6 2) ∧ ∀ z : Int, 0 ≤ z → z < x7 → f13 z = rowV (s.2 6) z a1 x6) (c_1 : (s.2 6 2) ≤ x7) (o_2 : (rng f13 ((s.2 6) 2) ∧ 0 ≤ (s.2 6) 2 ∧ (s.2 6) 2 ≤ 10000)) (f_3 : Int → Int) (c_5 : ¬ x2 = 0) (c_6 : ¬ x2 = 1) (o_7 : (tOK (s.2 6))) (c_9 : ¬ x4 < (maxI 0 (lay ((s.2 6) 2) (tl f13) f14) ((s.2 6) 2).toNat)) : k0 = 0 ∧ (x1 = a1 ∧ x2 = a2 ∧ 0 < s.2 5 0 ∧ 1 ≤ a1 ∧ a1 ≤ 2 ∧ 0 ≤ a2 ∧ a2 ≤ 2) ∧ x5 = 12 ^ a1.toNat ∧ (0 ≤ (i32 (x6 + 1)) ∧ (i32 (x6 + 1)) ≤ x5) ∧ x3 = (bst (bestW (s.2 6) a1 a2) (i32 (x6 + 1)).toNat).1 ∧ x4 = (bst (bestW (s.2 6) a1 a2) (i32 (x6 + 1)).toNat).2 := by
  obtain ⟨ht, hl⟩ := hp
  have hN := tOK_N ht
  (try simp only [bI_0, bI_n, Classical.not_not] at *)
  (try have hN2 : 0 < s.2 6 2 := lOK_N ht hl (by omega))
  (try have hrn := row_nat (n := a1) (by omega) (by omega))
  (try have hgx := GOx_b (t' := f14) (m' := f15) (r' := f16) (w := a2) hN2 (fun x h0 h1 => hI.2.2.2.2.2.2.2 x h0 (by omega)))
  (try have hb1 := bst_y (f := bestW (s.2 6) a1 a2) (k := x6) (by omega))
  (try have hb2 := bst_n (f := bestW (s.2 6) a1 a2) (k := x6) (by omega))
  (try have hbn := bst_nn (f := bestW (s.2 6) a1 a2) (fun r => worth_nn _ _ _) x6.toNat (by omega))
  (try unfold lex3)
  (try simp only [bI_0, bI_n, Classical.not_not] at *)
  (try simp (disch := omega) only [i32_id] at *)
  first | done | omega | ((repeat' (with_reducible apply And.intro)) <;> first | assumption | rfl | omega | (exact hI.1) | (unfold rBest; rw [if_neg (by omega)]) | (exact fun x h0 h1 => by rw [hI.2.2.2.2.2.2.2 x h0 (by omega)]; exact rowV_b x h0 h1) | (intro z h0 h1; omega) | (exact upto_s (p := fun z v => v = rowV (s.2 6) z a1 x6) hI.2.2.2.2.2.2.2 (by rw [hI.2.1.1])) | (unfold rBest; rw [if_pos (by omega), ← hrn.1, show 12 ^ a1.toNat = x6 by omega, ← hI.2.2.2.2.1]; exact fmt_2 (by omega) (by omega) (by omega)) | (unfold rBest; rw [if_pos (by omega), ← hrn.1, show 12 ^ a1.toNat = x6 by omega, ← hI.2.2.2.2.1]; exact (fmt_1 (by omega)).symm) | (rw [hI.2.1.1, ← hI.2.2.1]; omega) | grind [upI])
theorem vX3_best_12 (s : MS) (a1 : Int) (a2 : Int) (hp : tOK (s.2 6) ∧ lOK ((s.2 5) 0) (s.2 6)) (x1 : Int) (x2 : Int) (x3 : Int) (x4 : Int) (x5 : Int) (x6 : Int) (x7 : Int) (f11 : Int → Int) (f12 : Int → Int) (f13 : Int → Int) (f14 : Int → Int) (f15 : Int → Int) (f16 : Int → Int) (f17 : Int → Int) (f18 : Int → Int) (f19 : Int → Int) (k0 : Int) (k25 : Int) (k33 : Int) (k34 : Int) (hI : k0 = 0 ∧ (x1 = a1 ∧ x2 = a2 ∧ 0 < s.2 5 0 ∧ 1 ≤ a1 ∧ a1 ≤ 2 ∧ 0 ≤ a2 ∧ a2 ≤ 2) ∧ x5 = 12 ^ a1.toNat ∧ (0 ≤ x6 ∧ x6 < x5) ∧ x3 = (bst (bestW (s.2 6) a1 a2) x6.toNat).1 ∧ x4 = (bst (bestW (s.2 6) a1 a2) x6.toNat).2 ∧ (0 ≤ x7 ∧ x7 ≤ s.2 6 2) ∧ ∀ z : Int, 0 ≤ z → z < x7 → f13 z = rowV (s.2 6) z a1 x6) (c_1 : (s.2 6 2) ≤ x7) (o_2 : (rng f13 ((s.2 6) 2) ∧ 0 ≤ (s.2 6) 2 ∧ (s.2 6) 2 ≤ 10000)) (f_3 : Int → Int) (c_5 : ¬ x2 = 0) (c_6 : ¬ x2 = 1) (o_7 : (tOK (s.2 6))) (c_9 : ¬ x4 < (maxI 0 (lay ((s.2 6) 2) (tl f13) f14) ((s.2 6) 2).toNat)) : lex3 0 ((x5 - (i32 (x6 + 1))).toNat) 0 0 ((x5 - x6).toNat - 1) ((s.2 6 2 - x7).toNat + 1) := by
  obtain ⟨ht, hl⟩ := hp
  have hN := tOK_N ht
  (try simp only [bI_0, bI_n, Classical.not_not] at *)
  (try have hN2 : 0 < s.2 6 2 := lOK_N ht hl (by omega))
  (try have hrn := row_nat (n := a1) (by omega) (by omega))
  (try have hgx := GOx_b (t' := f14) (m' := f15) (r' := f16) (w := a2) hN2 (fun x h0 h1 => hI.2.2.2.2.2.2.2 x h0 (by omega)))
  (try have hb1 := bst_y (f := bestW (s.2 6) a1 a2) (k := x6) (by omega))
  (try have hb2 := bst_n (f := bestW (s.2 6) a1 a2) (k := x6) (by omega))
  (try have hbn := bst_nn (f := bestW (s.2 6) a1 a2) (fun r => worth_nn _ _ _) x6.toNat (by omega))
  (try unfold lex3)
  (try simp only [bI_0, bI_n, Classical.not_not] at *)
  (try simp (disch := omega) only [i32_id] at *)
  first | done | omega | ((repeat' (with_reducible apply And.intro)) <;> first | assumption | rfl | omega | (exact hI.1) | (unfold rBest; rw [if_neg (by omega)]) | (exact fun x h0 h1 => by rw [hI.2.2.2.2.2.2.2 x h0 (by omega)]; exact rowV_b x h0 h1) | (intro z h0 h1; omega) | (exact upto_s (p := fun z v => v = rowV (s.2 6) z a1 x6) hI.2.2.2.2.2.2.2 (by rw [hI.2.1.1])) | (unfold rBest; rw [if_pos (by omega), ← hrn.1, show 12 ^ a1.toNat = x6 by omega, ← hI.2.2.2.2.1]; exact fmt_2 (by omega) (by omega) (by omega)) | (unfold rBest; rw [if_pos (by omega), ← hrn.1, show 12 ^ a1.toNat = x6 by omega, ← hI.2.2.2.2.1]; exact (fmt_1 (by omega)).symm) | (rw [hI.2.1.1, ← hI.2.2.1]; omega) | grind [upI])
theorem vX3_best_13 (s : MS) (a1 : Int) (a2 : Int) (hp : tOK (s.2 6) ∧ lOK ((s.2 5) 0) (s.2 6)) (x1 : Int) (x2 : Int) (x3 : Int) (x4 : Int) (x5 : Int) (x6 : Int) (x7 : Int) (f11 : Int → Int) (f12 : Int → Int) (f13 : Int → Int) (f14 : Int → Int) (f15 : Int → Int) (f16 : Int → Int) (f17 : Int → Int) (f18 : Int → Int) (f19 : Int → Int) (k0 : Int) (k25 : Int) (k33 : Int) (k34 : Int) (hI : k0 = 0 ∧ (x1 = a1 ∧ x2 = a2 ∧ 0 < s.2 5 0 ∧ 1 ≤ a1 ∧ a1 ≤ 2 ∧ 0 ≤ a2 ∧ a2 ≤ 2) ∧ x5 = 12 ^ a1.toNat ∧ (0 ≤ x6 ∧ x6 < x5) ∧ x3 = (bst (bestW (s.2 6) a1 a2) x6.toNat).1 ∧ x4 = (bst (bestW (s.2 6) a1 a2) x6.toNat).2 ∧ (0 ≤ x7 ∧ x7 ≤ s.2 6 2) ∧ ∀ z : Int, 0 ≤ z → z < x7 → f13 z = rowV (s.2 6) z a1 x6) (c_1 : (s.2 6 2) ≤ x7) (o_2 : (rng f13 ((s.2 6) 2) ∧ 0 ≤ (s.2 6) 2 ∧ (s.2 6) 2 ≤ 10000)) (f_3 : Int → Int) (c_5 : ¬ x2 = 0) (c_6 : x2 = 1) : (tOK (s.2 6)) := by
  obtain ⟨ht, hl⟩ := hp
  have hN := tOK_N ht
  (try simp only [bI_0, bI_n, Classical.not_not] at *)
  (try have hN2 : 0 < s.2 6 2 := lOK_N ht hl (by omega))
  (try have hrn := row_nat (n := a1) (by omega) (by omega))
  (try have hgx := GOx_b (t' := f14) (m' := f15) (r' := f16) (w := a2) hN2 (fun x h0 h1 => hI.2.2.2.2.2.2.2 x h0 (by omega)))
  (try have hb1 := bst_y (f := bestW (s.2 6) a1 a2) (k := x6) (by omega))
  (try have hb2 := bst_n (f := bestW (s.2 6) a1 a2) (k := x6) (by omega))
  (try have hbn := bst_nn (f := bestW (s.2 6) a1 a2) (fun r => worth_nn _ _ _) x6.toNat (by omega))
  (try unfold lex3)
  (try simp only [bI_0, bI_n, Classical.not_not] at *)
  (try simp (disch := omega) only [i32_id] at *)
  first | done | omega | ((repeat' (with_reducible apply And.intro)) <;> first | assumption | rfl | omega | (exact hI.1) | (unfold rBest; rw [if_neg (by omega)]) | (exact fun x h0 h1 => by rw [hI.2.2.2.2.2.2.2 x h0 (by omega)]; exact rowV_b x h0 h1) | (intro z h0 h1; omega) | (exact upto_s (p := fun z v => v = rowV (s.2 6) z a1 x6) hI.2.2.2.2.2.2.2 (by rw [hI.2.1.1])) | (unfold rBest; rw [if_pos (by omega), ← hrn.1, show 12 ^ a1.toNat = x6 by omega, ← hI.2.2.2.2.1]; exact fmt_2 (by omega) (by omega) (by omega)) | (unfold rBest; rw [if_pos (by omega), ← hrn.1, show 12 ^ a1.toNat = x6 by omega, ← hI.2.2.2.2.1]; exact (fmt_1 (by omega)).symm) | (rw [hI.2.1.1, ← hI.2.2.1]; omega) | grind [upI])
theorem vX3_best_14 (s : MS) (a1 : Int) (a2 : Int) (hp : tOK (s.2 6) ∧ lOK ((s.2 5) 0) (s.2 6)) (x1 : Int) (x2 : Int) (x3 : Int) (x4 : Int) (x5 : Int) (x6 : Int) (x7 : Int) (f11 : Int → Int) (f12 : Int → Int) (f13 : Int → Int) (f14 : Int → Int) (f15 : Int → Int) (f16 : Int → Int) (f17 : Int → Int) (f18 : Int → Int) (f19 : Int → Int) (k0 : Int) (k25 : Int) (k33 : Int) (k34 : Int) (hI : k0 = 0 ∧ (x1 = a1 ∧ x2 = a2 ∧ 0 < s.2 5 0 ∧ 1 ≤ a1 ∧ a1 ≤ 2 ∧ 0 ≤ a2 ∧ a2 ≤ 2) ∧ x5 = 12 ^ a1.toNat ∧ (0 ≤ x6 ∧ x6 < x5) ∧ x3 = (bst (bestW (s.2 6) a1 a2) x6.toNat).1 ∧ x4 = (bst (bestW (s.2 6) a1 a2) x6.toNat).2 ∧ (0 ≤ x7 ∧ x7 ≤ s.2 6 2) ∧ ∀ z : Int, 0 ≤ z → z < x7 → f13 z = rowV (s.2 6) z a1 x6) (c_1 : (s.2 6 2) ≤ x7) (o_2 : (rng f13 ((s.2 6) 2) ∧ 0 ≤ (s.2 6) 2 ∧ (s.2 6) 2 ≤ 10000)) (f_3 : Int → Int) (c_5 : ¬ x2 = 0) (c_6 : x2 = 1) (o_10 : (tOK (s.2 6))) (c_12 : x4 < (many (fun x => (lay ((s.2 6) 2) (hm f13) f15) x = x) ((s.2 6) 2).toNat)) : k0 = 0 ∧ (x1 = a1 ∧ x2 = a2 ∧ 0 < s.2 5 0 ∧ 1 ≤ a1 ∧ a1 ≤ 2 ∧ 0 ≤ a2 ∧ a2 ≤ 2) ∧ x5 = 12 ^ a1.toNat ∧ (0 ≤ (i32 (x6 + 1)) ∧ (i32 (x6 + 1)) ≤ x5) ∧ x6 = (bst (bestW (s.2 6) a1 a2) (i32 (x6 + 1)).toNat).1 ∧ (many (fun x => (lay ((s.2 6) 2) (hm f13) f15) x = x) ((s.2 6) 2).toNat) = (bst (bestW (s.2 6) a1 a2) (i32 (x6 + 1)).toNat).2 := by
  obtain ⟨ht, hl⟩ := hp
  have hN := tOK_N ht
  (try simp only [bI_0, bI_n, Classical.not_not] at *)
  (try have hN2 : 0 < s.2 6 2 := lOK_N ht hl (by omega))
  (try have hrn := row_nat (n := a1) (by omega) (by omega))
  (try have hgx := GOx_b (t' := f14) (m' := f15) (r' := f16) (w := a2) hN2 (fun x h0 h1 => hI.2.2.2.2.2.2.2 x h0 (by omega)))
  (try have hb1 := bst_y (f := bestW (s.2 6) a1 a2) (k := x6) (by omega))
  (try have hb2 := bst_n (f := bestW (s.2 6) a1 a2) (k := x6) (by omega))
  (try have hbn := bst_nn (f := bestW (s.2 6) a1 a2) (fun r => worth_nn _ _ _) x6.toNat (by omega))
  (try unfold lex3)
  (try simp only [bI_0, bI_n, Classical.not_not] at *)
  (try simp (disch := omega) only [i32_id] at *)
  first | done | omega | ((repeat' (with_reducible apply And.intro)) <;> first | assumption | rfl | omega | (exact hI.1) | (unfold rBest; rw [if_neg (by omega)]) | (exact fun x h0 h1 => by rw [hI.2.2.2.2.2.2.2 x h0 (by omega)]; exact rowV_b x h0 h1) | (intro z h0 h1; omega) | (exact upto_s (p := fun z v => v = rowV (s.2 6) z a1 x6) hI.2.2.2.2.2.2.2 (by rw [hI.2.1.1])) | (unfold rBest; rw [if_pos (by omega), ← hrn.1, show 12 ^ a1.toNat = x6 by omega, ← hI.2.2.2.2.1]; exact fmt_2 (by omega) (by omega) (by omega)) | (unfold rBest; rw [if_pos (by omega), ← hrn.1, show 12 ^ a1.toNat = x6 by omega, ← hI.2.2.2.2.1]; exact (fmt_1 (by omega)).symm) | (rw [hI.2.1.1, ← hI.2.2.1]; omega) | grind [upI])
theorem vX3_best_15 (s : MS) (a1 : Int) (a2 : Int) (hp : tOK (s.2 6) ∧ lOK ((s.2 5) 0) (s.2 6)) (x1 : Int) (x2 : Int) (x3 : Int) (x4 : Int) (x5 : Int) (x6 : Int) (x7 : Int) (f11 : Int → Int) (f12 : Int → Int) (f13 : Int → Int) (f14 : Int → Int) (f15 : Int → Int) (f16 : Int → Int) (f17 : Int → Int) (f18 : Int → Int) (f19 : Int → Int) (k0 : Int) (k25 : Int) (k33 : Int) (k34 : Int) (hI : k0 = 0 ∧ (x1 = a1 ∧ x2 = a2 ∧ 0 < s.2 5 0 ∧ 1 ≤ a1 ∧ a1 ≤ 2 ∧ 0 ≤ a2 ∧ a2 ≤ 2) ∧ x5 = 12 ^ a1.toNat ∧ (0 ≤ x6 ∧ x6 < x5) ∧ x3 = (bst (bestW (s.2 6) a1 a2) x6.toNat).1 ∧ x4 = (bst (bestW (s.2 6) a1 a2) x6.toNat).2 ∧ (0 ≤ x7 ∧ x7 ≤ s.2 6 2) ∧ ∀ z : Int, 0 ≤ z → z < x7 → f13 z = rowV (s.2 6) z a1 x6) (c_1 : (s.2 6 2) ≤ x7) (o_2 : (rng f13 ((s.2 6) 2) ∧ 0 ≤ (s.2 6) 2 ∧ (s.2 6) 2 ≤ 10000)) (f_3 : Int → Int) (c_5 : ¬ x2 = 0) (c_6 : x2 = 1) (o_10 : (tOK (s.2 6))) (c_12 : x4 < (many (fun x => (lay ((s.2 6) 2) (hm f13) f15) x = x) ((s.2 6) 2).toNat)) : lex3 0 ((x5 - (i32 (x6 + 1))).toNat) 0 0 ((x5 - x6).toNat - 1) ((s.2 6 2 - x7).toNat + 1) := by
  obtain ⟨ht, hl⟩ := hp
  have hN := tOK_N ht
  (try simp only [bI_0, bI_n, Classical.not_not] at *)
  (try have hN2 : 0 < s.2 6 2 := lOK_N ht hl (by omega))
  (try have hrn := row_nat (n := a1) (by omega) (by omega))
  (try have hgx := GOx_b (t' := f14) (m' := f15) (r' := f16) (w := a2) hN2 (fun x h0 h1 => hI.2.2.2.2.2.2.2 x h0 (by omega)))
  (try have hb1 := bst_y (f := bestW (s.2 6) a1 a2) (k := x6) (by omega))
  (try have hb2 := bst_n (f := bestW (s.2 6) a1 a2) (k := x6) (by omega))
  (try have hbn := bst_nn (f := bestW (s.2 6) a1 a2) (fun r => worth_nn _ _ _) x6.toNat (by omega))
  (try unfold lex3)
  (try simp only [bI_0, bI_n, Classical.not_not] at *)
  (try simp (disch := omega) only [i32_id] at *)
  first | done | omega | ((repeat' (with_reducible apply And.intro)) <;> first | assumption | rfl | omega | (exact hI.1) | (unfold rBest; rw [if_neg (by omega)]) | (exact fun x h0 h1 => by rw [hI.2.2.2.2.2.2.2 x h0 (by omega)]; exact rowV_b x h0 h1) | (intro z h0 h1; omega) | (exact upto_s (p := fun z v => v = rowV (s.2 6) z a1 x6) hI.2.2.2.2.2.2.2 (by rw [hI.2.1.1])) | (unfold rBest; rw [if_pos (by omega), ← hrn.1, show 12 ^ a1.toNat = x6 by omega, ← hI.2.2.2.2.1]; exact fmt_2 (by omega) (by omega) (by omega)) | (unfold rBest; rw [if_pos (by omega), ← hrn.1, show 12 ^ a1.toNat = x6 by omega, ← hI.2.2.2.2.1]; exact (fmt_1 (by omega)).symm) | (rw [hI.2.1.1, ← hI.2.2.1]; omega) | grind [upI])
theorem vX3_best_16 (s : MS) (a1 : Int) (a2 : Int) (hp : tOK (s.2 6) ∧ lOK ((s.2 5) 0) (s.2 6)) (x1 : Int) (x2 : Int) (x3 : Int) (x4 : Int) (x5 : Int) (x6 : Int) (x7 : Int) (f11 : Int → Int) (f12 : Int → Int) (f13 : Int → Int) (f14 : Int → Int) (f15 : Int → Int) (f16 : Int → Int) (f17 : Int → Int) (f18 : Int → Int) (f19 : Int → Int) (k0 : Int) (k25 : Int) (k33 : Int) (k34 : Int) (hI : k0 = 0 ∧ (x1 = a1 ∧ x2 = a2 ∧ 0 < s.2 5 0 ∧ 1 ≤ a1 ∧ a1 ≤ 2 ∧ 0 ≤ a2 ∧ a2 ≤ 2) ∧ x5 = 12 ^ a1.toNat ∧ (0 ≤ x6 ∧ x6 < x5) ∧ x3 = (bst (bestW (s.2 6) a1 a2) x6.toNat).1 ∧ x4 = (bst (bestW (s.2 6) a1 a2) x6.toNat).2 ∧ (0 ≤ x7 ∧ x7 ≤ s.2 6 2) ∧ ∀ z : Int, 0 ≤ z → z < x7 → f13 z = rowV (s.2 6) z a1 x6) (c_1 : (s.2 6 2) ≤ x7) (o_2 : (rng f13 ((s.2 6) 2) ∧ 0 ≤ (s.2 6) 2 ∧ (s.2 6) 2 ≤ 10000)) (f_3 : Int → Int) (c_5 : ¬ x2 = 0) (c_6 : x2 = 1) (o_10 : (tOK (s.2 6))) (c_12 : ¬ x4 < (many (fun x => (lay ((s.2 6) 2) (hm f13) f15) x = x) ((s.2 6) 2).toNat)) : k0 = 0 ∧ (x1 = a1 ∧ x2 = a2 ∧ 0 < s.2 5 0 ∧ 1 ≤ a1 ∧ a1 ≤ 2 ∧ 0 ≤ a2 ∧ a2 ≤ 2) ∧ x5 = 12 ^ a1.toNat ∧ (0 ≤ (i32 (x6 + 1)) ∧ (i32 (x6 + 1)) ≤ x5) ∧ x3 = (bst (bestW (s.2 6) a1 a2) (i32 (x6 + 1)).toNat).1 ∧ x4 = (bst (bestW (s.2 6) a1 a2) (i32 (x6 + 1)).toNat).2 := by
  obtain ⟨ht, hl⟩ := hp
  have hN := tOK_N ht
  (try simp only [bI_0, bI_n, Classical.not_not] at *)
  (try have hN2 : 0 < s.2 6 2 := lOK_N ht hl (by omega))
  (try have hrn := row_nat (n := a1) (by omega) (by omega))
  (try have hgx := GOx_b (t' := f14) (m' := f15) (r' := f16) (w := a2) hN2 (fun x h0 h1 => hI.2.2.2.2.2.2.2 x h0 (by omega)))
  (try have hb1 := bst_y (f := bestW (s.2 6) a1 a2) (k := x6) (by omega))
  (try have hb2 := bst_n (f := bestW (s.2 6) a1 a2) (k := x6) (by omega))
  (try have hbn := bst_nn (f := bestW (s.2 6) a1 a2) (fun r => worth_nn _ _ _) x6.toNat (by omega))
  (try unfold lex3)
  (try simp only [bI_0, bI_n, Classical.not_not] at *)
  (try simp (disch := omega) only [i32_id] at *)
  first | done | omega | ((repeat' (with_reducible apply And.intro)) <;> first | assumption | rfl | omega | (exact hI.1) | (unfold rBest; rw [if_neg (by omega)]) | (exact fun x h0 h1 => by rw [hI.2.2.2.2.2.2.2 x h0 (by omega)]; exact rowV_b x h0 h1) | (intro z h0 h1; omega) | (exact upto_s (p := fun z v => v = rowV (s.2 6) z a1 x6) hI.2.2.2.2.2.2.2 (by rw [hI.2.1.1])) | (unfold rBest; rw [if_pos (by omega), ← hrn.1, show 12 ^ a1.toNat = x6 by omega, ← hI.2.2.2.2.1]; exact fmt_2 (by omega) (by omega) (by omega)) | (unfold rBest; rw [if_pos (by omega), ← hrn.1, show 12 ^ a1.toNat = x6 by omega, ← hI.2.2.2.2.1]; exact (fmt_1 (by omega)).symm) | (rw [hI.2.1.1, ← hI.2.2.1]; omega) | grind [upI])
theorem vX3_best_17 (s : MS) (a1 : Int) (a2 : Int) (hp : tOK (s.2 6) ∧ lOK ((s.2 5) 0) (s.2 6)) (x1 : Int) (x2 : Int) (x3 : Int) (x4 : Int) (x5 : Int) (x6 : Int) (x7 : Int) (f11 : Int → Int) (f12 : Int → Int) (f13 : Int → Int) (f14 : Int → Int) (f15 : Int → Int) (f16 : Int → Int) (f17 : Int → Int) (f18 : Int → Int) (f19 : Int → Int) (k0 : Int) (k25 : Int) (k33 : Int) (k34 : Int) (hI : k0 = 0 ∧ (x1 = a1 ∧ x2 = a2 ∧ 0 < s.2 5 0 ∧ 1 ≤ a1 ∧ a1 ≤ 2 ∧ 0 ≤ a2 ∧ a2 ≤ 2) ∧ x5 = 12 ^ a1.toNat ∧ (0 ≤ x6 ∧ x6 < x5) ∧ x3 = (bst (bestW (s.2 6) a1 a2) x6.toNat).1 ∧ x4 = (bst (bestW (s.2 6) a1 a2) x6.toNat).2 ∧ (0 ≤ x7 ∧ x7 ≤ s.2 6 2) ∧ ∀ z : Int, 0 ≤ z → z < x7 → f13 z = rowV (s.2 6) z a1 x6) (c_1 : (s.2 6 2) ≤ x7) (o_2 : (rng f13 ((s.2 6) 2) ∧ 0 ≤ (s.2 6) 2 ∧ (s.2 6) 2 ≤ 10000)) (f_3 : Int → Int) (c_5 : ¬ x2 = 0) (c_6 : x2 = 1) (o_10 : (tOK (s.2 6))) (c_12 : ¬ x4 < (many (fun x => (lay ((s.2 6) 2) (hm f13) f15) x = x) ((s.2 6) 2).toNat)) : lex3 0 ((x5 - (i32 (x6 + 1))).toNat) 0 0 ((x5 - x6).toNat - 1) ((s.2 6 2 - x7).toNat + 1) := by
  obtain ⟨ht, hl⟩ := hp
  have hN := tOK_N ht
  (try simp only [bI_0, bI_n, Classical.not_not] at *)
  (try have hN2 : 0 < s.2 6 2 := lOK_N ht hl (by omega))
  (try have hrn := row_nat (n := a1) (by omega) (by omega))
  (try have hgx := GOx_b (t' := f14) (m' := f15) (r' := f16) (w := a2) hN2 (fun x h0 h1 => hI.2.2.2.2.2.2.2 x h0 (by omega)))
  (try have hb1 := bst_y (f := bestW (s.2 6) a1 a2) (k := x6) (by omega))
  (try have hb2 := bst_n (f := bestW (s.2 6) a1 a2) (k := x6) (by omega))
  (try have hbn := bst_nn (f := bestW (s.2 6) a1 a2) (fun r => worth_nn _ _ _) x6.toNat (by omega))
  (try unfold lex3)
  (try simp only [bI_0, bI_n, Classical.not_not] at *)
  (try simp (disch := omega) only [i32_id] at *)
  first | done | omega | ((repeat' (with_reducible apply And.intro)) <;> first | assumption | rfl | omega | (exact hI.1) | (unfold rBest; rw [if_neg (by omega)]) | (exact fun x h0 h1 => by rw [hI.2.2.2.2.2.2.2 x h0 (by omega)]; exact rowV_b x h0 h1) | (intro z h0 h1; omega) | (exact upto_s (p := fun z v => v = rowV (s.2 6) z a1 x6) hI.2.2.2.2.2.2.2 (by rw [hI.2.1.1])) | (unfold rBest; rw [if_pos (by omega), ← hrn.1, show 12 ^ a1.toNat = x6 by omega, ← hI.2.2.2.2.1]; exact fmt_2 (by omega) (by omega) (by omega)) | (unfold rBest; rw [if_pos (by omega), ← hrn.1, show 12 ^ a1.toNat = x6 by omega, ← hI.2.2.2.2.1]; exact (fmt_1 (by omega)).symm) | (rw [hI.2.1.1, ← hI.2.2.1]; omega) | grind [upI])
theorem vX3_best_18 (s : MS) (a1 : Int) (a2 : Int) (hp : tOK (s.2 6) ∧ lOK ((s.2 5) 0) (s.2 6)) (x1 : Int) (x2 : Int) (x3 : Int) (x4 : Int) (x5 : Int) (x6 : Int) (x7 : Int) (f11 : Int → Int) (f12 : Int → Int) (f13 : Int → Int) (f14 : Int → Int) (f15 : Int → Int) (f16 : Int → Int) (f17 : Int → Int) (f18 : Int → Int) (f19 : Int → Int) (k0 : Int) (k25 : Int) (k33 : Int) (k34 : Int) (hI : k0 = 0 ∧ (x1 = a1 ∧ x2 = a2 ∧ 0 < s.2 5 0 ∧ 1 ≤ a1 ∧ a1 ≤ 2 ∧ 0 ≤ a2 ∧ a2 ≤ 2) ∧ x5 = 12 ^ a1.toNat ∧ (0 ≤ x6 ∧ x6 < x5) ∧ x3 = (bst (bestW (s.2 6) a1 a2) x6.toNat).1 ∧ x4 = (bst (bestW (s.2 6) a1 a2) x6.toNat).2 ∧ (0 ≤ x7 ∧ x7 ≤ s.2 6 2) ∧ ∀ z : Int, 0 ≤ z → z < x7 → f13 z = rowV (s.2 6) z a1 x6) (c_1 : (s.2 6 2) ≤ x7) (o_2 : (rng f13 ((s.2 6) 2) ∧ 0 ≤ (s.2 6) 2 ∧ (s.2 6) 2 ≤ 10000)) (f_3 : Int → Int) (c_5 : x2 = 0) : (tOK (s.2 6)) := by
  obtain ⟨ht, hl⟩ := hp
  have hN := tOK_N ht
  (try simp only [bI_0, bI_n, Classical.not_not] at *)
  (try have hN2 : 0 < s.2 6 2 := lOK_N ht hl (by omega))
  (try have hrn := row_nat (n := a1) (by omega) (by omega))
  (try have hgx := GOx_b (t' := f14) (m' := f15) (r' := f16) (w := a2) hN2 (fun x h0 h1 => hI.2.2.2.2.2.2.2 x h0 (by omega)))
  (try have hb1 := bst_y (f := bestW (s.2 6) a1 a2) (k := x6) (by omega))
  (try have hb2 := bst_n (f := bestW (s.2 6) a1 a2) (k := x6) (by omega))
  (try have hbn := bst_nn (f := bestW (s.2 6) a1 a2) (fun r => worth_nn _ _ _) x6.toNat (by omega))
  (try unfold lex3)
  (try simp only [bI_0, bI_n, Classical.not_not] at *)
  (try simp (disch := omega) only [i32_id] at *)
  first | done | omega | ((repeat' (with_reducible apply And.intro)) <;> first | assumption | rfl | omega | (exact hI.1) | (unfold rBest; rw [if_neg (by omega)]) | (exact fun x h0 h1 => by rw [hI.2.2.2.2.2.2.2 x h0 (by omega)]; exact rowV_b x h0 h1) | (intro z h0 h1; omega) | (exact upto_s (p := fun z v => v = rowV (s.2 6) z a1 x6) hI.2.2.2.2.2.2.2 (by rw [hI.2.1.1])) | (unfold rBest; rw [if_pos (by omega), ← hrn.1, show 12 ^ a1.toNat = x6 by omega, ← hI.2.2.2.2.1]; exact fmt_2 (by omega) (by omega) (by omega)) | (unfold rBest; rw [if_pos (by omega), ← hrn.1, show 12 ^ a1.toNat = x6 by omega, ← hI.2.2.2.2.1]; exact (fmt_1 (by omega)).symm) | (rw [hI.2.1.1, ← hI.2.2.1]; omega) | grind [upI])
theorem vX3_best_19 (s : MS) (a1 : Int) (a2 : Int) (hp : tOK (s.2 6) ∧ lOK ((s.2 5) 0) (s.2 6)) (x1 : Int) (x2 : Int) (x3 : Int) (x4 : Int) (x5 : Int) (x6 : Int) (x7 : Int) (f11 : Int → Int) (f12 : Int → Int) (f13 : Int → Int) (f14 : Int → Int) (f15 : Int → Int) (f16 : Int → Int) (f17 : Int → Int) (f18 : Int → Int) (f19 : Int → Int) (k0 : Int) (k25 : Int) (k33 : Int) (k34 : Int) (hI : k0 = 0 ∧ (x1 = a1 ∧ x2 = a2 ∧ 0 < s.2 5 0 ∧ 1 ≤ a1 ∧ a1 ≤ 2 ∧ 0 ≤ a2 ∧ a2 ≤ 2) ∧ x5 = 12 ^ a1.toNat ∧ (0 ≤ x6 ∧ x6 < x5) ∧ x3 = (bst (bestW (s.2 6) a1 a2) x6.toNat).1 ∧ x4 = (bst (bestW (s.2 6) a1 a2) x6.toNat).2 ∧ (0 ≤ x7 ∧ x7 ≤ s.2 6 2) ∧ ∀ z : Int, 0 ≤ z → z < x7 → f13 z = rowV (s.2 6) z a1 x6) (c_1 : (s.2 6 2) ≤ x7) (o_2 : (rng f13 ((s.2 6) 2) ∧ 0 ≤ (s.2 6) 2 ∧ (s.2 6) 2 ≤ 10000)) (f_3 : Int → Int) (c_5 : x2 = 0) (o_13 : (tOK (s.2 6))) : (0 ≤ (lgst (fun x => (lay ((s.2 6) 2) (hm f13) f15) x = x) (lay ((s.2 6) 2) (rg f13) f16) ((s.2 6) 2).toNat) ∧ (lgst (fun x => (lay ((s.2 6) 2) (hm f13) f15) x = x) (lay ((s.2 6) 2) (rg f13) f16) ((s.2 6) 2).toNat) < 10000) := by
  obtain ⟨ht, hl⟩ := hp
  have hN := tOK_N ht
  (try simp only [bI_0, bI_n, Classical.not_not] at *)
  (try have hN2 : 0 < s.2 6 2 := lOK_N ht hl (by omega))
  (try have hrn := row_nat (n := a1) (by omega) (by omega))
  (try have hgx := GOx_b (t' := f14) (m' := f15) (r' := f16) (w := a2) hN2 (fun x h0 h1 => hI.2.2.2.2.2.2.2 x h0 (by omega)))
  (try have hb1 := bst_y (f := bestW (s.2 6) a1 a2) (k := x6) (by omega))
  (try have hb2 := bst_n (f := bestW (s.2 6) a1 a2) (k := x6) (by omega))
  (try have hbn := bst_nn (f := bestW (s.2 6) a1 a2) (fun r => worth_nn _ _ _) x6.toNat (by omega))
  (try unfold lex3)
  (try simp only [bI_0, bI_n, Classical.not_not] at *)
  (try simp (disch := omega) only [i32_id] at *)
  first | done | omega | ((repeat' (with_reducible apply And.intro)) <;> first | assumption | rfl | omega | (exact hI.1) | (unfold rBest; rw [if_neg (by omega)]) | (exact fun x h0 h1 => by rw [hI.2.2.2.2.2.2.2 x h0 (by omega)]; exact rowV_b x h0 h1) | (intro z h0 h1; omega) | (exact upto_s (p := fun z v => v = rowV (s.2 6) z a1 x6) hI.2.2.2.2.2.2.2 (by rw [hI.2.1.1])) | (unfold rBest; rw [if_pos (by omega), ← hrn.1, show 12 ^ a1.toNat = x6 by omega, ← hI.2.2.2.2.1]; exact fmt_2 (by omega) (by omega) (by omega)) | (unfold rBest; rw [if_pos (by omega), ← hrn.1, show 12 ^ a1.toNat = x6 by omega, ← hI.2.2.2.2.1]; exact (fmt_1 (by omega)).symm) | (rw [hI.2.1.1, ← hI.2.2.1]; omega) | grind [upI])
theorem vX3_best_20 (s : MS) (a1 : Int) (a2 : Int) (hp : tOK (s.2 6) ∧ lOK ((s.2 5) 0) (s.2 6)) (x1 : Int) (x2 : Int) (x3 : Int) (x4 : Int) (x5 : Int) (x6 : Int) (x7 : Int) (f11 : Int → Int) (f12 : Int → Int) (f13 : Int → Int) (f14 : Int → Int) (f15 : Int → Int) (f16 : Int → Int) (f17 : Int → Int) (f18 : Int → Int) (f19 : Int → Int) (k0 : Int) (k25 : Int) (k33 : Int) (k34 : Int) (hI : k0 = 0 ∧ (x1 = a1 ∧ x2 = a2 ∧ 0 < s.2 5 0 ∧ 1 ≤ a1 ∧ a1 ≤ 2 ∧ 0 ≤ a2 ∧ a2 ≤ 2) ∧ x5 = 12 ^ a1.toNat ∧ (0 ≤ x6 ∧ x6 < x5) ∧ x3 = (bst (bestW (s.2 6) a1 a2) x6.toNat).1 ∧ x4 = (bst (bestW (s.2 6) a1 a2) x6.toNat).2 ∧ (0 ≤ x7 ∧ x7 ≤ s.2 6 2) ∧ ∀ z : Int, 0 ≤ z → z < x7 → f13 z = rowV (s.2 6) z a1 x6) (c_1 : (s.2 6 2) ≤ x7) (o_2 : (rng f13 ((s.2 6) 2) ∧ 0 ≤ (s.2 6) 2 ∧ (s.2 6) 2 ≤ 10000)) (f_3 : Int → Int) (c_5 : x2 = 0) (o_13 : (tOK (s.2 6))) (o_15 : (0 ≤ (lgst (fun x => (lay ((s.2 6) 2) (hm f13) f15) x = x) (lay ((s.2 6) 2) (rg f13) f16) ((s.2 6) 2).toNat) ∧ (lgst (fun x => (lay ((s.2 6) 2) (hm f13) f15) x = x) (lay ((s.2 6) 2) (rg f13) f16) ((s.2 6) 2).toNat) < 10000)) (c_16 : x4 < ((lay ((s.2 6) 2) (rg f13) f16) (lgst (fun x => (lay ((s.2 6) 2) (hm f13) f15) x = x) (lay ((s.2 6) 2) (rg f13) f16) ((s.2 6) 2).toNat))) : k0 = 0 ∧ (x1 = a1 ∧ x2 = a2 ∧ 0 < s.2 5 0 ∧ 1 ≤ a1 ∧ a1 ≤ 2 ∧ 0 ≤ a2 ∧ a2 ≤ 2) ∧ x5 = 12 ^ a1.toNat ∧ (0 ≤ (i32 (x6 + 1)) ∧ (i32 (x6 + 1)) ≤ x5) ∧ x6 = (bst (bestW (s.2 6) a1 a2) (i32 (x6 + 1)).toNat).1 ∧ ((lay ((s.2 6) 2) (rg f13) f16) (lgst (fun x => (lay ((s.2 6) 2) (hm f13) f15) x = x) (lay ((s.2 6) 2) (rg f13) f16) ((s.2 6) 2).toNat)) = (bst (bestW (s.2 6) a1 a2) (i32 (x6 + 1)).toNat).2 := by
  obtain ⟨ht, hl⟩ := hp
  have hN := tOK_N ht
  (try simp only [bI_0, bI_n, Classical.not_not] at *)
  (try have hN2 : 0 < s.2 6 2 := lOK_N ht hl (by omega))
  (try have hrn := row_nat (n := a1) (by omega) (by omega))
  (try have hgx := GOx_b (t' := f14) (m' := f15) (r' := f16) (w := a2) hN2 (fun x h0 h1 => hI.2.2.2.2.2.2.2 x h0 (by omega)))
  (try have hb1 := bst_y (f := bestW (s.2 6) a1 a2) (k := x6) (by omega))
  (try have hb2 := bst_n (f := bestW (s.2 6) a1 a2) (k := x6) (by omega))
  (try have hbn := bst_nn (f := bestW (s.2 6) a1 a2) (fun r => worth_nn _ _ _) x6.toNat (by omega))
  (try unfold lex3)
  (try simp only [bI_0, bI_n, Classical.not_not] at *)
  (try simp (disch := omega) only [i32_id] at *)
  first | done | omega | ((repeat' (with_reducible apply And.intro)) <;> first | assumption | rfl | omega | (exact hI.1) | (unfold rBest; rw [if_neg (by omega)]) | (exact fun x h0 h1 => by rw [hI.2.2.2.2.2.2.2 x h0 (by omega)]; exact rowV_b x h0 h1) | (intro z h0 h1; omega) | (exact upto_s (p := fun z v => v = rowV (s.2 6) z a1 x6) hI.2.2.2.2.2.2.2 (by rw [hI.2.1.1])) | (unfold rBest; rw [if_pos (by omega), ← hrn.1, show 12 ^ a1.toNat = x6 by omega, ← hI.2.2.2.2.1]; exact fmt_2 (by omega) (by omega) (by omega)) | (unfold rBest; rw [if_pos (by omega), ← hrn.1, show 12 ^ a1.toNat = x6 by omega, ← hI.2.2.2.2.1]; exact (fmt_1 (by omega)).symm) | (rw [hI.2.1.1, ← hI.2.2.1]; omega) | grind [upI])
theorem vX3_best_21 (s : MS) (a1 : Int) (a2 : Int) (hp : tOK (s.2 6) ∧ lOK ((s.2 5) 0) (s.2 6)) (x1 : Int) (x2 : Int) (x3 : Int) (x4 : Int) (x5 : Int) (x6 : Int) (x7 : Int) (f11 : Int → Int) (f12 : Int → Int) (f13 : Int → Int) (f14 : Int → Int) (f15 : Int → Int) (f16 : Int → Int) (f17 : Int → Int) (f18 : Int → Int) (f19 : Int → Int) (k0 : Int) (k25 : Int) (k33 : Int) (k34 : Int) (hI : k0 = 0 ∧ (x1 = a1 ∧ x2 = a2 ∧ 0 < s.2 5 0 ∧ 1 ≤ a1 ∧ a1 ≤ 2 ∧ 0 ≤ a2 ∧ a2 ≤ 2) ∧ x5 = 12 ^ a1.toNat ∧ (0 ≤ x6 ∧ x6 < x5) ∧ x3 = (bst (bestW (s.2 6) a1 a2) x6.toNat).1 ∧ x4 = (bst (bestW (s.2 6) a1 a2) x6.toNat).2 ∧ (0 ≤ x7 ∧ x7 ≤ s.2 6 2) ∧ ∀ z : Int, 0 ≤ z → z < x7 → f13 z = rowV (s.2 6) z a1 x6) (c_1 : (s.2 6 2) ≤ x7) (o_2 : (rng f13 ((s.2 6) 2) ∧ 0 ≤ (s.2 6) 2 ∧ (s.2 6) 2 ≤ 10000)) (f_3 : Int → Int) (c_5 : x2 = 0) (o_13 : (tOK (s.2 6))) (o_15 : (0 ≤ (lgst (fun x => (lay ((s.2 6) 2) (hm f13) f15) x = x) (lay ((s.2 6) 2) (rg f13) f16) ((s.2 6) 2).toNat) ∧ (lgst (fun x => (lay ((s.2 6) 2) (hm f13) f15) x = x) (lay ((s.2 6) 2) (rg f13) f16) ((s.2 6) 2).toNat) < 10000)) (c_16 : x4 < ((lay ((s.2 6) 2) (rg f13) f16) (lgst (fun x => (lay ((s.2 6) 2) (hm f13) f15) x = x) (lay ((s.2 6) 2) (rg f13) f16) ((s.2 6) 2).toNat))) : lex3 0 ((x5 - (i32 (x6 + 1))).toNat) 0 0 ((x5 - x6).toNat - 1) ((s.2 6 2 - x7).toNat + 1) := by
  obtain ⟨ht, hl⟩ := hp
  have hN := tOK_N ht
  (try simp only [bI_0, bI_n, Classical.not_not] at *)
  (try have hN2 : 0 < s.2 6 2 := lOK_N ht hl (by omega))
  (try have hrn := row_nat (n := a1) (by omega) (by omega))
  (try have hgx := GOx_b (t' := f14) (m' := f15) (r' := f16) (w := a2) hN2 (fun x h0 h1 => hI.2.2.2.2.2.2.2 x h0 (by omega)))
  (try have hb1 := bst_y (f := bestW (s.2 6) a1 a2) (k := x6) (by omega))
  (try have hb2 := bst_n (f := bestW (s.2 6) a1 a2) (k := x6) (by omega))
  (try have hbn := bst_nn (f := bestW (s.2 6) a1 a2) (fun r => worth_nn _ _ _) x6.toNat (by omega))
  (try unfold lex3)
  (try simp only [bI_0, bI_n, Classical.not_not] at *)
  (try simp (disch := omega) only [i32_id] at *)
  first | done | omega | ((repeat' (with_reducible apply And.intro)) <;> first | assumption | rfl | omega | (exact hI.1) | (unfold rBest; rw [if_neg (by omega)]) | (exact fun x h0 h1 => by rw [hI.2.2.2.2.2.2.2 x h0 (by omega)]; exact rowV_b x h0 h1) | (intro z h0 h1; omega) | (exact upto_s (p := fun z v => v = rowV (s.2 6) z a1 x6) hI.2.2.2.2.2.2.2 (by rw [hI.2.1.1])) | (unfold rBest; rw [if_pos (by omega), ← hrn.1, show 12 ^ a1.toNat = x6 by omega, ← hI.2.2.2.2.1]; exact fmt_2 (by omega) (by omega) (by omega)) | (unfold rBest; rw [if_pos (by omega), ← hrn.1, show 12 ^ a1.toNat = x6 by omega, ← hI.2.2.2.2.1]; exact (fmt_1 (by omega)).symm) | (rw [hI.2.1.1, ← hI.2.2.1]; omega) | grind [upI])
theorem vX3_best_22 (s : MS) (a1 : Int) (a2 : Int) (hp : tOK (s.2 6) ∧ lOK ((s.2 5) 0) (s.2 6)) (x1 : Int) (x2 : Int) (x3 : Int) (x4 : Int) (x5 : Int) (x6 : Int) (x7 : Int) (f11 : Int → Int) (f12 : Int → Int) (f13 : Int → Int) (f14 : Int → Int) (f15 : Int → Int) (f16 : Int → Int) (f17 : Int → Int) (f18 : Int → Int) (f19 : Int → Int) (k0 : Int) (k25 : Int) (k33 : Int) (k34 : Int) (hI : k0 = 0 ∧ (x1 = a1 ∧ x2 = a2 ∧ 0 < s.2 5 0 ∧ 1 ≤ a1 ∧ a1 ≤ 2 ∧ 0 ≤ a2 ∧ a2 ≤ 2) ∧ x5 = 12 ^ a1.toNat ∧ (0 ≤ x6 ∧ x6 < x5) ∧ x3 = (bst (bestW (s.2 6) a1 a2) x6.toNat).1 ∧ x4 = (bst (bestW (s.2 6) a1 a2) x6.toNat).2 ∧ (0 ≤ x7 ∧ x7 ≤ s.2 6 2) ∧ ∀ z : Int, 0 ≤ z → z < x7 → f13 z = rowV (s.2 6) z a1 x6) (c_1 : (s.2 6 2) ≤ x7) (o_2 : (rng f13 ((s.2 6) 2) ∧ 0 ≤ (s.2 6) 2 ∧ (s.2 6) 2 ≤ 10000)) (f_3 : Int → Int) (c_5 : x2 = 0) (o_13 : (tOK (s.2 6))) (o_15 : (0 ≤ (lgst (fun x => (lay ((s.2 6) 2) (hm f13) f15) x = x) (lay ((s.2 6) 2) (rg f13) f16) ((s.2 6) 2).toNat) ∧ (lgst (fun x => (lay ((s.2 6) 2) (hm f13) f15) x = x) (lay ((s.2 6) 2) (rg f13) f16) ((s.2 6) 2).toNat) < 10000)) (c_16 : ¬ x4 < ((lay ((s.2 6) 2) (rg f13) f16) (lgst (fun x => (lay ((s.2 6) 2) (hm f13) f15) x = x) (lay ((s.2 6) 2) (rg f13) f16) ((s.2 6) 2).toNat))) : k0 = 0 ∧ (x1 = a1 ∧ x2 = a2 ∧ 0 < s.2 5 0 ∧ 1 ≤ a1 ∧ a1 ≤ 2 ∧ 0 ≤ a2 ∧ a2 ≤ 2) ∧ x5 = 12 ^ a1.toNat ∧ (0 ≤ (i32 (x6 + 1)) ∧ (i32 (x6 + 1)) ≤ x5) ∧ x3 = (bst (bestW (s.2 6) a1 a2) (i32 (x6 + 1)).toNat).1 ∧ x4 = (bst (bestW (s.2 6) a1 a2) (i32 (x6 + 1)).toNat).2 := by
  obtain ⟨ht, hl⟩ := hp
  have hN := tOK_N ht
  (try simp only [bI_0, bI_n, Classical.not_not] at *)
  (try have hN2 : 0 < s.2 6 2 := lOK_N ht hl (by omega))
  (try have hrn := row_nat (n := a1) (by omega) (by omega))
  (try have hgx := GOx_b (t' := f14) (m' := f15) (r' := f16) (w := a2) hN2 (fun x h0 h1 => hI.2.2.2.2.2.2.2 x h0 (by omega)))
  (try have hb1 := bst_y (f := bestW (s.2 6) a1 a2) (k := x6) (by omega))
  (try have hb2 := bst_n (f := bestW (s.2 6) a1 a2) (k := x6) (by omega))
  (try have hbn := bst_nn (f := bestW (s.2 6) a1 a2) (fun r => worth_nn _ _ _) x6.toNat (by omega))
  (try unfold lex3)
  (try simp only [bI_0, bI_n, Classical.not_not] at *)
  (try simp (disch := omega) only [i32_id] at *)
  first | done | omega | ((repeat' (with_reducible apply And.intro)) <;> first | assumption | rfl | omega | (exact hI.1) | (unfold rBest; rw [if_neg (by omega)]) | (exact fun x h0 h1 => by rw [hI.2.2.2.2.2.2.2 x h0 (by omega)]; exact rowV_b x h0 h1) | (intro z h0 h1; omega) | (exact upto_s (p := fun z v => v = rowV (s.2 6) z a1 x6) hI.2.2.2.2.2.2.2 (by rw [hI.2.1.1])) | (unfold rBest; rw [if_pos (by omega), ← hrn.1, show 12 ^ a1.toNat = x6 by omega, ← hI.2.2.2.2.1]; exact fmt_2 (by omega) (by omega) (by omega)) | (unfold rBest; rw [if_pos (by omega), ← hrn.1, show 12 ^ a1.toNat = x6 by omega, ← hI.2.2.2.2.1]; exact (fmt_1 (by omega)).symm) | (rw [hI.2.1.1, ← hI.2.2.1]; omega) | grind [upI])
theorem vX3_best_23 (s : MS) (a1 : Int) (a2 : Int) (hp : tOK (s.2 6) ∧ lOK ((s.2 5) 0) (s.2 6)) (x1 : Int) (x2 : Int) (x3 : Int) (x4 : Int) (x5 : Int) (x6 : Int) (x7 : Int) (f11 : Int → Int) (f12 : Int → Int) (f13 : Int → Int) (f14 : Int → Int) (f15 : Int → Int) (f16 : Int → Int) (f17 : Int → Int) (f18 : Int → Int) (f19 : Int → Int) (k0 : Int) (k25 : Int) (k33 : Int) (k34 : Int) (hI : k0 = 0 ∧ (x1 = a1 ∧ x2 = a2 ∧ 0 < s.2 5 0 ∧ 1 ≤ a1 ∧ a1 ≤ 2 ∧ 0 ≤ a2 ∧ a2 ≤ 2) ∧ x5 = 12 ^ a1.toNat ∧ (0 ≤ x6 ∧ x6 < x5) ∧ x3 = (bst (bestW (s.2 6) a1 a2) x6.toNat).1 ∧ x4 = (bst (bestW (s.2 6) a1 a2) x6.toNat).2 ∧ (0 ≤ x7 ∧ x7 ≤ s.2 6 2) ∧ ∀ z : Int, 0 ≤ z → z < x7 → f13 z = rowV (s.2 6) z a1 x6) (c_1 : (s.2 6 2) ≤ x7) (o_2 : (rng f13 ((s.2 6) 2) ∧ 0 ≤ (s.2 6) 2 ∧ (s.2 6) 2 ≤ 10000)) (f_3 : Int → Int) (c_5 : x2 = 0) (o_13 : (tOK (s.2 6))) (o_15 : (0 ≤ (lgst (fun x => (lay ((s.2 6) 2) (hm f13) f15) x = x) (lay ((s.2 6) 2) (rg f13) f16) ((s.2 6) 2).toNat) ∧ (lgst (fun x => (lay ((s.2 6) 2) (hm f13) f15) x = x) (lay ((s.2 6) 2) (rg f13) f16) ((s.2 6) 2).toNat) < 10000)) (c_16 : ¬ x4 < ((lay ((s.2 6) 2) (rg f13) f16) (lgst (fun x => (lay ((s.2 6) 2) (hm f13) f15) x = x) (lay ((s.2 6) 2) (rg f13) f16) ((s.2 6) 2).toNat))) : lex3 0 ((x5 - (i32 (x6 + 1))).toNat) 0 0 ((x5 - x6).toNat - 1) ((s.2 6 2 - x7).toNat + 1) := by
  obtain ⟨ht, hl⟩ := hp
  have hN := tOK_N ht
  (try simp only [bI_0, bI_n, Classical.not_not] at *)
  (try have hN2 : 0 < s.2 6 2 := lOK_N ht hl (by omega))
  (try have hrn := row_nat (n := a1) (by omega) (by omega))
  (try have hgx := GOx_b (t' := f14) (m' := f15) (r' := f16) (w := a2) hN2 (fun x h0 h1 => hI.2.2.2.2.2.2.2 x h0 (by omega)))
  (try have hb1 := bst_y (f := bestW (s.2 6) a1 a2) (k := x6) (by omega))
  (try have hb2 := bst_n (f := bestW (s.2 6) a1 a2) (k := x6) (by omega))
  (try have hbn := bst_nn (f := bestW (s.2 6) a1 a2) (fun r => worth_nn _ _ _) x6.toNat (by omega))
  (try unfold lex3)
  (try simp only [bI_0, bI_n, Classical.not_not] at *)
  (try simp (disch := omega) only [i32_id] at *)
  first | done | omega | ((repeat' (with_reducible apply And.intro)) <;> first | assumption | rfl | omega | (exact hI.1) | (unfold rBest; rw [if_neg (by omega)]) | (exact fun x h0 h1 => by rw [hI.2.2.2.2.2.2.2 x h0 (by omega)]; exact rowV_b x h0 h1) | (intro z h0 h1; omega) | (exact upto_s (p := fun z v => v = rowV (s.2 6) z a1 x6) hI.2.2.2.2.2.2.2 (by rw [hI.2.1.1])) | (unfold rBest; rw [if_pos (by omega), ← hrn.1, show 12 ^ a1.toNat = x6 by omega, ← hI.2.2.2.2.1]; exact fmt_2 (by omega) (by omega) (by omega)) | (unfold rBest; rw [if_pos (by omega), ← hrn.1, show 12 ^ a1.toNat = x6 by omega, ← hI.2.2.2.2.1]; exact (fmt_1 (by omega)).symm) | (rw [hI.2.1.1, ← hI.2.2.1]; omega) | grind [upI])
theorem vX3_best_24 (s : MS) (a1 : Int) (a2 : Int) (hp : tOK (s.2 6) ∧ lOK ((s.2 5) 0) (s.2 6)) (x1 : Int) (x2 : Int) (x3 : Int) (x4 : Int) (x5 : Int) (x6 : Int) (x7 : Int) (f11 : Int → Int) (f12 : Int → Int) (f13 : Int → Int) (f14 : Int → Int) (f15 : Int → Int) (f16 : Int → Int) (f17 : Int → Int) (f18 : Int → Int) (f19 : Int → Int) (k0 : Int) (k25 : Int) (k33 : Int) (k34 : Int) (hI : k0 = 0 ∧ (x1 = a1 ∧ x2 = a2 ∧ 0 < s.2 5 0 ∧ 1 ≤ a1 ∧ a1 ≤ 2 ∧ 0 ≤ a2 ∧ a2 ≤ 2) ∧ x5 = 12 ^ a1.toNat ∧ (0 ≤ x6 ∧ x6 < x5) ∧ x3 = (bst (bestW (s.2 6) a1 a2) x6.toNat).1 ∧ x4 = (bst (bestW (s.2 6) a1 a2) x6.toNat).2 ∧ (0 ≤ x7 ∧ x7 ≤ s.2 6 2) ∧ ∀ z : Int, 0 ≤ z → z < x7 → f13 z = rowV (s.2 6) z a1 x6) (c_1 : ¬ (s.2 6 2) ≤ x7) : (tOK (s.2 6) ∧ (0 ≤ x7 ∧ x7 < (s.2 6) 2) ∧ (0 ≤ x1 ∧ x1 ≤ 3) ∧ 0 ≤ x6 ∧ x6 < 12 ^ (x1).toNat) := by
  obtain ⟨ht, hl⟩ := hp
  have hN := tOK_N ht
  (try simp only [bI_0, bI_n, Classical.not_not] at *)
  (try have hN2 : 0 < s.2 6 2 := lOK_N ht hl (by omega))
  (try have hrn := row_nat (n := a1) (by omega) (by omega))
  (try have hgx := GOx_b (t' := f14) (m' := f15) (r' := f16) (w := a2) hN2 (fun x h0 h1 => hI.2.2.2.2.2.2.2 x h0 (by omega)))
  (try have hb1 := bst_y (f := bestW (s.2 6) a1 a2) (k := x6) (by omega))
  (try have hb2 := bst_n (f := bestW (s.2 6) a1 a2) (k := x6) (by omega))
  (try have hbn := bst_nn (f := bestW (s.2 6) a1 a2) (fun r => worth_nn _ _ _) x6.toNat (by omega))
  (try unfold lex3)
  (try simp only [bI_0, bI_n, Classical.not_not] at *)
  (try simp (disch := omega) only [i32_id] at *)
  first | done | omega | ((repeat' (with_reducible apply And.intro)) <;> first | assumption | rfl | omega | (exact hI.1) | (unfold rBest; rw [if_neg (by omega)]) | (exact fun x h0 h1 => by rw [hI.2.2.2.2.2.2.2 x h0 (by omega)]; exact rowV_b x h0 h1) | (intro z h0 h1; omega) | (exact upto_s (p := fun z v => v = rowV (s.2 6) z a1 x6) hI.2.2.2.2.2.2.2 (by rw [hI.2.1.1])) | (unfold rBest; rw [if_pos (by omega), ← hrn.1, show 12 ^ a1.toNat = x6 by omega, ← hI.2.2.2.2.1]; exact fmt_2 (by omega) (by omega) (by omega)) | (unfold rBest; rw [if_pos (by omega), ← hrn.1, show 12 ^ a1.toNat = x6 by omega, ← hI.2.2.2.2.1]; exact (fmt_1 (by omega)).symm) | (rw [hI.2.1.1, ← hI.2.2.1]; omega) | grind [upI])
theorem vX3_best_25 (s : MS) (a1 : Int) (a2 : Int) (hp : tOK (s.2 6) ∧ lOK ((s.2 5) 0) (s.2 6)) (x1 : Int) (x2 : Int) (x3 : Int) (x4 : Int) (x5 : Int) (x6 : Int) (x7 : Int) (f11 : Int → Int) (f12 : Int → Int) (f13 : Int → Int) (f14 : Int → Int) (f15 : Int → Int) (f16 : Int → Int) (f17 : Int → Int) (f18 : Int → Int) (f19 : Int → Int) (k0 : Int) (k25 : Int) (k33 : Int) (k34 : Int) (hI : k0 = 0 ∧ (x1 = a1 ∧ x2 = a2 ∧ 0 < s.2 5 0 ∧ 1 ≤ a1 ∧ a1 ≤ 2 ∧ 0 ≤ a2 ∧ a2 ≤ 2) ∧ x5 = 12 ^ a1.toNat ∧ (0 ≤ x6 ∧ x6 < x5) ∧ x3 = (bst (bestW (s.2 6) a1 a2) x6.toNat).1 ∧ x4 = (bst (bestW (s.2 6) a1 a2) x6.toNat).2 ∧ (0 ≤ x7 ∧ x7 ≤ s.2 6 2) ∧ ∀ z : Int, 0 ≤ z → z < x7 → f13 z = rowV (s.2 6) z a1 x6) (c_1 : ¬ (s.2 6 2) ≤ x7) (o_17 : (tOK (s.2 6) ∧ (0 ≤ x7 ∧ x7 < (s.2 6) 2) ∧ (0 ≤ x1 ∧ x1 ≤ 3) ∧ 0 ≤ x6 ∧ x6 < 12 ^ (x1).toNat)) (f_18 : Int → Int) (f_19 : Int → Int) (k_20 : Int) : (0 ≤ x7 ∧ x7 < 10000) := by
  obtain ⟨ht, hl⟩ := hp
  have hN := tOK_N ht
  (try simp only [bI_0, bI_n, Classical.not_not] at *)
  (try have hN2 : 0 < s.2 6 2 := lOK_N ht hl (by omega))
  (try have hrn := row_nat (n := a1) (by omega) (by omega))
  (try have hgx := GOx_b (t' := f14) (m' := f15) (r' := f16) (w := a2) hN2 (fun x h0 h1 => hI.2.2.2.2.2.2.2 x h0 (by omega)))
  (try have hb1 := bst_y (f := bestW (s.2 6) a1 a2) (k := x6) (by omega))
  (try have hb2 := bst_n (f := bestW (s.2 6) a1 a2) (k := x6) (by omega))
  (try have hbn := bst_nn (f := bestW (s.2 6) a1 a2) (fun r => worth_nn _ _ _) x6.toNat (by omega))
  (try unfold lex3)
  (try simp only [bI_0, bI_n, Classical.not_not] at *)
  (try simp (disch := omega) only [i32_id] at *)
  first | done | omega | ((repeat' (with_reducible apply And.intro)) <;> first | assumption | rfl | omega | (exact hI.1) | (unfold rBest; rw [if_neg (by omega)]) | (exact fun x h0 h1 => by rw [hI.2.2.2.2.2.2.2 x h0 (by omega)]; exact rowV_b x h0 h1) | (intro z h0 h1; omega) | (exact upto_s (p := fun z v => v = rowV (s.2 6) z a1 x6) hI.2.2.2.2.2.2.2 (by rw [hI.2.1.1])) | (unfold rBest; rw [if_pos (by omega), ← hrn.1, show 12 ^ a1.toNat = x6 by omega, ← hI.2.2.2.2.1]; exact fmt_2 (by omega) (by omega) (by omega)) | (unfold rBest; rw [if_pos (by omega), ← hrn.1, show 12 ^ a1.toNat = x6 by omega, ← hI.2.2.2.2.1]; exact (fmt_1 (by omega)).symm) | (rw [hI.2.1.1, ← hI.2.2.1]; omega) | grind [upI])
theorem vX3_best_26 (s : MS) (a1 : Int) (a2 : Int) (hp : tOK (s.2 6) ∧ lOK ((s.2 5) 0) (s.2 6)) (x1 : Int) (x2 : Int) (x3 : Int) (x4 : Int) (x5 : Int) (x6 : Int) (x7 : Int) (f11 : Int → Int) (f12 : Int → Int) (f13 : Int → Int) (f14 : Int → Int) (f15 : Int → Int) (f16 : Int → Int) (f17 : Int → Int) (f18 : Int → Int) (f19 : Int → Int) (k0 : Int) (k25 : Int) (k33 : Int) (k34 : Int) (hI : k0 = 0 ∧ (x1 = a1 ∧ x2 = a2 ∧ 0 < s.2 5 0 ∧ 1 ≤ a1 ∧ a1 ≤ 2 ∧ 0 ≤ a2 ∧ a2 ≤ 2) ∧ x5 = 12 ^ a1.toNat ∧ (0 ≤ x6 ∧ x6 < x5) ∧ x3 = (bst (bestW (s.2 6) a1 a2) x6.toNat).1 ∧ x4 = (bst (bestW (s.2 6) a1 a2) x6.toNat).2 ∧ (0 ≤ x7 ∧ x7 ≤ s.2 6 2) ∧ ∀ z : Int, 0 ≤ z → z < x7 → f13 z = rowV (s.2 6) z a1 x6) (c_1 : ¬ (s.2 6 2) ≤ x7) (o_17 : (tOK (s.2 6) ∧ (0 ≤ x7 ∧ x7 < (s.2 6) 2) ∧ (0 ≤ x1 ∧ x1 ≤ 3) ∧ 0 ≤ x6 ∧ x6 < 12 ^ (x1).toNat)) (f_18 : Int → Int) (f_19 : Int → Int) (k_20 : Int) (o_22 : (0 ≤ x7 ∧ x7 < 10000)) : k0 = 0 ∧ (x1 = a1 ∧ x2 = a2 ∧ 0 < s.2 5 0 ∧ 1 ≤ a1 ∧ a1 ≤ 2 ∧ 0 ≤ a2 ∧ a2 ≤ 2) ∧ x5 = 12 ^ a1.toNat ∧ (0 ≤ x6 ∧ x6 < x5) ∧ x3 = (bst (bestW (s.2 6) a1 a2) x6.toNat).1 ∧ x4 = (bst (bestW (s.2 6) a1 a2) x6.toNat).2 ∧ (0 ≤ (i32 (x7 + 1)) ∧ (i32 (x7 + 1)) ≤ s.2 6 2) ∧ ∀ z : Int, 0 ≤ z → z < (i32 (x7 + 1)) → (upI f13 x7 (rowV (s.2 6) x7 x1 x6)) z = rowV (s.2 6) z a1 x6 := by
  obtain ⟨ht, hl⟩ := hp
  have hN := tOK_N ht
  (try simp only [bI_0, bI_n, Classical.not_not] at *)
  (try have hN2 : 0 < s.2 6 2 := lOK_N ht hl (by omega))
  (try have hrn := row_nat (n := a1) (by omega) (by omega))
  (try have hgx := GOx_b (t' := f14) (m' := f15) (r' := f16) (w := a2) hN2 (fun x h0 h1 => hI.2.2.2.2.2.2.2 x h0 (by omega)))
  (try have hb1 := bst_y (f := bestW (s.2 6) a1 a2) (k := x6) (by omega))
  (try have hb2 := bst_n (f := bestW (s.2 6) a1 a2) (k := x6) (by omega))
  (try have hbn := bst_nn (f := bestW (s.2 6) a1 a2) (fun r => worth_nn _ _ _) x6.toNat (by omega))
  (try unfold lex3)
  (try simp only [bI_0, bI_n, Classical.not_not] at *)
  (try simp (disch := omega) only [i32_id] at *)
  first | done | omega | ((repeat' (with_reducible apply And.intro)) <;> first | assumption | rfl | omega | (exact hI.1) | (unfold rBest; rw [if_neg (by omega)]) | (exact fun x h0 h1 => by rw [hI.2.2.2.2.2.2.2 x h0 (by omega)]; exact rowV_b x h0 h1) | (intro z h0 h1; omega) | (exact upto_s (p := fun z v => v = rowV (s.2 6) z a1 x6) hI.2.2.2.2.2.2.2 (by rw [hI.2.1.1])) | (unfold rBest; rw [if_pos (by omega), ← hrn.1, show 12 ^ a1.toNat = x6 by omega, ← hI.2.2.2.2.1]; exact fmt_2 (by omega) (by omega) (by omega)) | (unfold rBest; rw [if_pos (by omega), ← hrn.1, show 12 ^ a1.toNat = x6 by omega, ← hI.2.2.2.2.1]; exact (fmt_1 (by omega)).symm) | (rw [hI.2.1.1, ← hI.2.2.1]; omega) | grind [upI])
theorem vX3_best_27 (s : MS) (a1 : Int) (a2 : Int) (hp : tOK (s.2 6) ∧ lOK ((s.2 5) 0) (s.2 6)) (x1 : Int) (x2 : Int) (x3 : Int) (x4 : Int) (x5 : Int) (x6 : Int) (x7 : Int) (f11 : Int → Int) (f12 : Int → Int) (f13 : Int → Int) (f14 : Int → Int) (f15 : Int → Int) (f16 : Int → Int) (f17 : Int → Int) (f18 : Int → Int) (f19 : Int → Int) (k0 : Int) (k25 : Int) (k33 : Int) (k34 : Int) (hI : k0 = 0 ∧ (x1 = a1 ∧ x2 = a2 ∧ 0 < s.2 5 0 ∧ 1 ≤ a1 ∧ a1 ≤ 2 ∧ 0 ≤ a2 ∧ a2 ≤ 2) ∧ x5 = 12 ^ a1.toNat ∧ (0 ≤ x6 ∧ x6 < x5) ∧ x3 = (bst (bestW (s.2 6) a1 a2) x6.toNat).1 ∧ x4 = (bst (bestW (s.2 6) a1 a2) x6.toNat).2 ∧ (0 ≤ x7 ∧ x7 ≤ s.2 6 2) ∧ ∀ z : Int, 0 ≤ z → z < x7 → f13 z = rowV (s.2 6) z a1 x6) (c_1 : ¬ (s.2 6 2) ≤ x7) (o_17 : (tOK (s.2 6) ∧ (0 ≤ x7 ∧ x7 < (s.2 6) 2) ∧ (0 ≤ x1 ∧ x1 ≤ 3) ∧ 0 ≤ x6 ∧ x6 < 12 ^ (x1).toNat)) (f_18 : Int → Int) (f_19 : Int → Int) (k_20 : Int) (o_22 : (0 ≤ x7 ∧ x7 < 10000)) : lex3 0 ((x5 - x6).toNat - 1) ((s.2 6 2 - (i32 (x7 + 1))).toNat + 1) 0 ((x5 - x6).toNat - 1) ((s.2 6 2 - x7).toNat + 1) := by
  obtain ⟨ht, hl⟩ := hp
  have hN := tOK_N ht
  (try simp only [bI_0, bI_n, Classical.not_not] at *)
  (try have hN2 : 0 < s.2 6 2 := lOK_N ht hl (by omega))
  (try have hrn := row_nat (n := a1) (by omega) (by omega))
  (try have hgx := GOx_b (t' := f14) (m' := f15) (r' := f16) (w := a2) hN2 (fun x h0 h1 => hI.2.2.2.2.2.2.2 x h0 (by omega)))
  (try have hb1 := bst_y (f := bestW (s.2 6) a1 a2) (k := x6) (by omega))
  (try have hb2 := bst_n (f := bestW (s.2 6) a1 a2) (k := x6) (by omega))
  (try have hbn := bst_nn (f := bestW (s.2 6) a1 a2) (fun r => worth_nn _ _ _) x6.toNat (by omega))
  (try unfold lex3)
  (try simp only [bI_0, bI_n, Classical.not_not] at *)
  (try simp (disch := omega) only [i32_id] at *)
  first | done | omega | ((repeat' (with_reducible apply And.intro)) <;> first | assumption | rfl | omega | (exact hI.1) | (unfold rBest; rw [if_neg (by omega)]) | (exact fun x h0 h1 => by rw [hI.2.2.2.2.2.2.2 x h0 (by omega)]; exact rowV_b x h0 h1) | (intro z h0 h1; omega) | (exact upto_s (p := fun z v => v = rowV (s.2 6) z a1 x6) hI.2.2.2.2.2.2.2 (by rw [hI.2.1.1])) | (unfold rBest; rw [if_pos (by omega), ← hrn.1, show 12 ^ a1.toNat = x6 by omega, ← hI.2.2.2.2.1]; exact fmt_2 (by omega) (by omega) (by omega)) | (unfold rBest; rw [if_pos (by omega), ← hrn.1, show 12 ^ a1.toNat = x6 by omega, ← hI.2.2.2.2.1]; exact (fmt_1 (by omega)).symm) | (rw [hI.2.1.1, ← hI.2.2.1]; omega) | grind [upI])
theorem vX3_best_28 (s : MS) (a1 : Int) (a2 : Int) (hp : tOK (s.2 6) ∧ lOK ((s.2 5) 0) (s.2 6)) (c_2 : (bI (0 < (s.2 5) 0)) = 0) : (-2) = (rBest ((s.2 5) 0) (s.2 6) a1 a2) := by
  obtain ⟨ht, hl⟩ := hp
  have hN := tOK_N ht
  (try simp only [bI_0, bI_n, Classical.not_not] at *)
  (try have hN2 : 0 < s.2 6 2 := lOK_N ht hl (by omega))
  (try have hrn := row_nat (n := a1) (by omega) (by omega))
  (try have hgx := GOx_b (t' := f14) (m' := f15) (r' := f16) (w := a2) hN2 (fun x h0 h1 => hI.2.2.2.2.2.2.2 x h0 (by omega)))
  (try have hb1 := bst_y (f := bestW (s.2 6) a1 a2) (k := x6) (by omega))
  (try have hb2 := bst_n (f := bestW (s.2 6) a1 a2) (k := x6) (by omega))
  (try have hbn := bst_nn (f := bestW (s.2 6) a1 a2) (fun r => worth_nn _ _ _) x6.toNat (by omega))
  (try unfold lex3)
  (try simp only [bI_0, bI_n, Classical.not_not] at *)
  (try simp (disch := omega) only [i32_id] at *)
  first | done | omega | ((repeat' (with_reducible apply And.intro)) <;> first | assumption | rfl | omega | (exact hI.1) | (unfold rBest; rw [if_neg (by omega)]) | (exact fun x h0 h1 => by rw [hI.2.2.2.2.2.2.2 x h0 (by omega)]; exact rowV_b x h0 h1) | (intro z h0 h1; omega) | (exact upto_s (p := fun z v => v = rowV (s.2 6) z a1 x6) hI.2.2.2.2.2.2.2 (by rw [hI.2.1.1])) | (unfold rBest; rw [if_pos (by omega), ← hrn.1, show 12 ^ a1.toNat = x6 by omega, ← hI.2.2.2.2.1]; exact fmt_2 (by omega) (by omega) (by omega)) | (unfold rBest; rw [if_pos (by omega), ← hrn.1, show 12 ^ a1.toNat = x6 by omega, ← hI.2.2.2.2.1]; exact (fmt_1 (by omega)).symm) | (rw [hI.2.1.1, ← hI.2.2.1]; omega) | grind [upI])
theorem vX3_best_29 (s : MS) (a1 : Int) (a2 : Int) (hp : tOK (s.2 6) ∧ lOK ((s.2 5) 0) (s.2 6)) (c_2 : ¬ (bI (0 < (s.2 5) 0)) = 0) (c_4 : (bI ((1 : Int) ≤ a1 ∧ a1 ≤ (2 : Int))) = 0) : (-2) = (rBest ((s.2 5) 0) (s.2 6) a1 a2) := by
  obtain ⟨ht, hl⟩ := hp
  have hN := tOK_N ht
  (try simp only [bI_0, bI_n, Classical.not_not] at *)
  (try have hN2 : 0 < s.2 6 2 := lOK_N ht hl (by omega))
  (try have hrn := row_nat (n := a1) (by omega) (by omega))
  (try have hgx := GOx_b (t' := f14) (m' := f15) (r' := f16) (w := a2) hN2 (fun x h0 h1 => hI.2.2.2.2.2.2.2 x h0 (by omega)))
  (try have hb1 := bst_y (f := bestW (s.2 6) a1 a2) (k := x6) (by omega))
  (try have hb2 := bst_n (f := bestW (s.2 6) a1 a2) (k := x6) (by omega))
  (try have hbn := bst_nn (f := bestW (s.2 6) a1 a2) (fun r => worth_nn _ _ _) x6.toNat (by omega))
  (try unfold lex3)
  (try simp only [bI_0, bI_n, Classical.not_not] at *)
  (try simp (disch := omega) only [i32_id] at *)
  first | done | omega | ((repeat' (with_reducible apply And.intro)) <;> first | assumption | rfl | omega | (exact hI.1) | (unfold rBest; rw [if_neg (by omega)]) | (exact fun x h0 h1 => by rw [hI.2.2.2.2.2.2.2 x h0 (by omega)]; exact rowV_b x h0 h1) | (intro z h0 h1; omega) | (exact upto_s (p := fun z v => v = rowV (s.2 6) z a1 x6) hI.2.2.2.2.2.2.2 (by rw [hI.2.1.1])) | (unfold rBest; rw [if_pos (by omega), ← hrn.1, show 12 ^ a1.toNat = x6 by omega, ← hI.2.2.2.2.1]; exact fmt_2 (by omega) (by omega) (by omega)) | (unfold rBest; rw [if_pos (by omega), ← hrn.1, show 12 ^ a1.toNat = x6 by omega, ← hI.2.2.2.2.1]; exact (fmt_1 (by omega)).symm) | (rw [hI.2.1.1, ← hI.2.2.1]; omega) | grind [upI])
theorem vX3_best_30 (s : MS) (a1 : Int) (a2 : Int) (hp : tOK (s.2 6) ∧ lOK ((s.2 5) 0) (s.2 6)) (c_2 : ¬ (bI (0 < (s.2 5) 0)) = 0) (c_4 : ¬ (bI ((1 : Int) ≤ a1 ∧ a1 ≤ (2 : Int))) = 0) (c_6 : ¬ (bI ((0 : Int) ≤ a2 ∧ a2 ≤ (2 : Int))) = 0) (c_7 : ¬ a1 = 1) : (0 : Int) = 0 ∧ (a1 = a1 ∧ a2 = a2 ∧ 0 < s.2 5 0 ∧ 1 ≤ a1 ∧ a1 ≤ 2 ∧ 0 ≤ a2 ∧ a2 ≤ 2) ∧ (144 : Int) = 12 ^ a1.toNat ∧ (0 ≤ (0 : Int) ∧ (0 : Int) ≤ (144 : Int)) ∧ ((-1) : Int) = (bst (bestW (s.2 6) a1 a2) (0 : Int).toNat).1 ∧ ((-1) : Int) = (bst (bestW (s.2 6) a1 a2) (0 : Int).toNat).2 := by
  obtain ⟨ht, hl⟩ := hp
  have hN := tOK_N ht
  (try simp only [bI_0, bI_n, Classical.not_not] at *)
  (try have hN2 : 0 < s.2 6 2 := lOK_N ht hl (by omega))
  (try have hrn := row_nat (n := a1) (by omega) (by omega))
  (try have hgx := GOx_b (t' := f14) (m' := f15) (r' := f16) (w := a2) hN2 (fun x h0 h1 => hI.2.2.2.2.2.2.2 x h0 (by omega)))
  (try have hb1 := bst_y (f := bestW (s.2 6) a1 a2) (k := x6) (by omega))
  (try have hb2 := bst_n (f := bestW (s.2 6) a1 a2) (k := x6) (by omega))
  (try have hbn := bst_nn (f := bestW (s.2 6) a1 a2) (fun r => worth_nn _ _ _) x6.toNat (by omega))
  (try unfold lex3)
  (try simp only [bI_0, bI_n, Classical.not_not] at *)
  (try simp (disch := omega) only [i32_id] at *)
  first | done | omega | ((repeat' (with_reducible apply And.intro)) <;> first | assumption | rfl | omega | (exact hI.1) | (unfold rBest; rw [if_neg (by omega)]) | (exact fun x h0 h1 => by rw [hI.2.2.2.2.2.2.2 x h0 (by omega)]; exact rowV_b x h0 h1) | (intro z h0 h1; omega) | (exact upto_s (p := fun z v => v = rowV (s.2 6) z a1 x6) hI.2.2.2.2.2.2.2 (by rw [hI.2.1.1])) | (unfold rBest; rw [if_pos (by omega), ← hrn.1, show 12 ^ a1.toNat = x6 by omega, ← hI.2.2.2.2.1]; exact fmt_2 (by omega) (by omega) (by omega)) | (unfold rBest; rw [if_pos (by omega), ← hrn.1, show 12 ^ a1.toNat = x6 by omega, ← hI.2.2.2.2.1]; exact (fmt_1 (by omega)).symm) | (rw [hI.2.1.1, ← hI.2.2.1]; omega) | grind [upI])
theorem vX3_best_31 (s : MS) (a1 : Int) (a2 : Int) (hp : tOK (s.2 6) ∧ lOK ((s.2 5) 0) (s.2 6)) (c_2 : ¬ (bI (0 < (s.2 5) 0)) = 0) (c_4 : ¬ (bI ((1 : Int) ≤ a1 ∧ a1 ≤ (2 : Int))) = 0) (c_6 : ¬ (bI ((0 : Int) ≤ a2 ∧ a2 ≤ (2 : Int))) = 0) (c_7 : a1 = 1) : (0 : Int) = 0 ∧ (a1 = a1 ∧ a2 = a2 ∧ 0 < s.2 5 0 ∧ 1 ≤ a1 ∧ a1 ≤ 2 ∧ 0 ≤ a2 ∧ a2 ≤ 2) ∧ (12 : Int) = 12 ^ a1.toNat ∧ (0 ≤ (0 : Int) ∧ (0 : Int) ≤ (12 : Int)) ∧ ((-1) : Int) = (bst (bestW (s.2 6) a1 a2) (0 : Int).toNat).1 ∧ ((-1) : Int) = (bst (bestW (s.2 6) a1 a2) (0 : Int).toNat).2 := by
  obtain ⟨ht, hl⟩ := hp
  have hN := tOK_N ht
  (try simp only [bI_0, bI_n, Classical.not_not] at *)
  (try have hN2 : 0 < s.2 6 2 := lOK_N ht hl (by omega))
  (try have hrn := row_nat (n := a1) (by omega) (by omega))
  (try have hgx := GOx_b (t' := f14) (m' := f15) (r' := f16) (w := a2) hN2 (fun x h0 h1 => hI.2.2.2.2.2.2.2 x h0 (by omega)))
  (try have hb1 := bst_y (f := bestW (s.2 6) a1 a2) (k := x6) (by omega))
  (try have hb2 := bst_n (f := bestW (s.2 6) a1 a2) (k := x6) (by omega))
  (try have hbn := bst_nn (f := bestW (s.2 6) a1 a2) (fun r => worth_nn _ _ _) x6.toNat (by omega))
  (try unfold lex3)
  (try simp only [bI_0, bI_n, Classical.not_not] at *)
  (try simp (disch := omega) only [i32_id] at *)
  first | done | omega | ((repeat' (with_reducible apply And.intro)) <;> first | assumption | rfl | omega | (exact hI.1) | (unfold rBest; rw [if_neg (by omega)]) | (exact fun x h0 h1 => by rw [hI.2.2.2.2.2.2.2 x h0 (by omega)]; exact rowV_b x h0 h1) | (intro z h0 h1; omega) | (exact upto_s (p := fun z v => v = rowV (s.2 6) z a1 x6) hI.2.2.2.2.2.2.2 (by rw [hI.2.1.1])) | (unfold rBest; rw [if_pos (by omega), ← hrn.1, show 12 ^ a1.toNat = x6 by omega, ← hI.2.2.2.2.1]; exact fmt_2 (by omega) (by omega) (by omega)) | (unfold rBest; rw [if_pos (by omega), ← hrn.1, show 12 ^ a1.toNat = x6 by omega, ← hI.2.2.2.2.1]; exact (fmt_1 (by omega)).symm) | (rw [hI.2.1.1, ← hI.2.2.1]; omega) | grind [upI])
theorem vX3_best_32 (s : MS) (a1 : Int) (a2 : Int) (hp : tOK (s.2 6) ∧ lOK ((s.2 5) 0) (s.2 6)) (c_2 : ¬ (bI (0 < (s.2 5) 0)) = 0) (c_4 : ¬ (bI ((1 : Int) ≤ a1 ∧ a1 ≤ (2 : Int))) = 0) (c_6 : (bI ((0 : Int) ≤ a2 ∧ a2 ≤ (2 : Int))) = 0) : (-2) = (rBest ((s.2 5) 0) (s.2 6) a1 a2) := by
  obtain ⟨ht, hl⟩ := hp
  have hN := tOK_N ht
  (try simp only [bI_0, bI_n, Classical.not_not] at *)
  (try have hN2 : 0 < s.2 6 2 := lOK_N ht hl (by omega))
  (try have hrn := row_nat (n := a1) (by omega) (by omega))
  (try have hgx := GOx_b (t' := f14) (m' := f15) (r' := f16) (w := a2) hN2 (fun x h0 h1 => hI.2.2.2.2.2.2.2 x h0 (by omega)))
  (try have hb1 := bst_y (f := bestW (s.2 6) a1 a2) (k := x6) (by omega))
  (try have hb2 := bst_n (f := bestW (s.2 6) a1 a2) (k := x6) (by omega))
  (try have hbn := bst_nn (f := bestW (s.2 6) a1 a2) (fun r => worth_nn _ _ _) x6.toNat (by omega))
  (try unfold lex3)
  (try simp only [bI_0, bI_n, Classical.not_not] at *)
  (try simp (disch := omega) only [i32_id] at *)
  first | done | omega | ((repeat' (with_reducible apply And.intro)) <;> first | assumption | rfl | omega | (exact hI.1) | (unfold rBest; rw [if_neg (by omega)]) | (exact fun x h0 h1 => by rw [hI.2.2.2.2.2.2.2 x h0 (by omega)]; exact rowV_b x h0 h1) | (intro z h0 h1; omega) | (exact upto_s (p := fun z v => v = rowV (s.2 6) z a1 x6) hI.2.2.2.2.2.2.2 (by rw [hI.2.1.1])) | (unfold rBest; rw [if_pos (by omega), ← hrn.1, show 12 ^ a1.toNat = x6 by omega, ← hI.2.2.2.2.1]; exact fmt_2 (by omega) (by omega) (by omega)) | (unfold rBest; rw [if_pos (by omega), ← hrn.1, show 12 ^ a1.toNat = x6 by omega, ← hI.2.2.2.2.1]; exact (fmt_1 (by omega)).symm) | (rw [hI.2.1.1, ← hI.2.2.1]; omega) | grind [upI])
theorem allX3_best (b : AH) (s : MS) (a1 : Int) (a2 : Int) (hp : tOK (s.2 6) ∧ lOK ((s.2 5) 0) (s.2 6)) : ∀ m1 m2 m3 : Nat, (∀ (x1 : Int) (x2 : Int) (x3 : Int) (x4 : Int) (x5 : Int) (x6 : Int) (f11 : Int → Int) (f12 : Int → Int) (f13 : Int → Int) (f14 : Int → Int) (f15 : Int → Int) (f16 : Int → Int) (f17 : Int → Int) (f18 : Int → Int) (f19 : Int → Int) (k0 : Int) (k25 : Int) (k33 : Int) (k34 : Int), m1 = 0 → m2 = ((x5 - x6).toNat) → m3 = 0 → (k0 = 0 ∧ (x1 = a1 ∧ x2 = a2 ∧ 0 < s.2 5 0 ∧ 1 ≤ a1 ∧ a1 ≤ 2 ∧ 0 ≤ a2 ∧ a2 ≤ 2) ∧ x5 = 12 ^ a1.toNat ∧ (0 ≤ x6 ∧ x6 ≤ x5) ∧ x3 = (bst (bestW (s.2 6) a1 a2) x6.toNat).1 ∧ x4 = (bst (bestW (s.2 6) a1 a2) x6.toNat).2) → HX3_best_62 (QX3_best s a1 a2) b s x1 x2 x3 x4 x5 x6 f11 f12 f13 f14 f15 f16 f17 f18 f19 k0 k25 k33 k34) ∧ (∀ (x1 : Int) (x2 : Int) (x3 : Int) (x4 : Int) (x5 : Int) (x6 : Int) (x7 : Int) (f11 : Int → Int) (f12 : Int → Int) (f13 : Int → Int) (f14 : Int → Int) (f15 : Int → Int) (f16 : Int → Int) (f17 : Int → Int) (f18 : Int → Int) (f19 : Int → Int) (k0 : Int) (k25 : Int) (k33 : Int) (k34 : Int), m1 = 0 → m2 = ((x5 - x6).toNat - 1) → m3 = ((s.2 6 2 - x7).toNat + 1) → (k0 = 0 ∧ (x1 = a1 ∧ x2 = a2 ∧ 0 < s.2 5 0 ∧ 1 ≤ a1 ∧ a1 ≤ 2 ∧ 0 ≤ a2 ∧ a2 ≤ 2) ∧ x5 = 12 ^ a1.toNat ∧ (0 ≤ x6 ∧ x6 < x5) ∧ x3 = (bst (bestW (s.2 6) a1 a2) x6.toNat).1 ∧ x4 = (bst (bestW (s.2 6) a1 a2) x6.toNat).2 ∧ (0 ≤ x7 ∧ x7 ≤ s.2 6 2) ∧ ∀ z : Int, 0 ≤ z → z < x7 → f13 z = rowV (s.2 6) z a1 x6) → HX3_best_72 (QX3_best s a1 a2) b s x1 x2 x3 x4 x5 x6 x7 f11 f12 f13 f14 f15 f16 f17 f18 f19 k0 k25 k33 k34) := by
  refine lex3_ind ?_
  intro m1 m2 m3 ih
  refine ⟨?_, ?_⟩
  · rintro x1 x2 x3 x4 x5 x6 f11 f12 f13 f14 f15 f16 f17 f18 f19 k0 k25 k33 k34 rfl rfl rfl hI
    refine bX3_best_62 b s x1 x2 x3 x4 x5 x6 f11 f12 f13 f14 f15 f16 f17 f18 f19 k0 k25 k33 k34 ?_
    refine ⟨fun c_1 => ?_, fun c_1 => ?_⟩
    · refine ⟨fun c_2 => ?_, fun c_2 => ?_⟩
      · exact ⟨f11, f12, f13, f14, f15, f16, f17, f18, f19, k25, k33, k34, (rI_c (vX3_best_2 s a1 a2 hp x1 x2 x3 x4 x5 x6 f11 f12 f13 f14 f15 f16 f17 f18 f19 k0 k25 k33 k34 hI c_1 c_2)), (sS_c (sS_c (sS_c (sS_c (sA_c (sA_c (sA_c (sA_c (sA_c (sA_c (sA_c (sA_c (sA_c rfl rfl) rfl) rfl) rfl) rfl) rfl) rfl) rfl) rfl) (vX3_best_1 s a1 a2 hp x1 x2 x3 x4 x5 x6 f11 f12 f13 f14 f15 f16 f17 f18 f19 k0 k25 k33 k34 hI c_1 c_2)) rfl) rfl) rfl)⟩
      · exact ⟨f11, f12, f13, f14, f15, f16, f17, f18, f19, k25, k33, k34, (rI_c (vX3_best_4 s a1 a2 hp x1 x2 x3 x4 x5 x6 f11 f12 f13 f14 f15 f16 f17 f18 f19 k0 k25 k33 k34 hI c_1 c_2)), (sS_c (sS_c (sS_c (sS_c (sA_c (sA_c (sA_c (sA_c (sA_c (sA_c (sA_c (sA_c (sA_c rfl rfl) rfl) rfl) rfl) rfl) rfl) rfl) rfl) rfl) (vX3_best_3 s a1 a2 hp x1 x2 x3 x4 x5 x6 f11 f12 f13 f14 f15 f16 f17 f18 f19 k0 k25 k33 k34 hI c_1 c_2)) rfl) rfl) rfl)⟩
    · exact (ih _ _ _ (vX3_best_6 s a1 a2 hp x1 x2 x3 x4 x5 x6 f11 f12 f13 f14 f15 f16 f17 f18 f19 k0 k25 k33 k34 hI c_1)).2 x1 x2 x3 x4 x5 x6 0 f11 f12 f13 f14 f15 f16 f17 f18 f19 k0 k25 k33 k34 rfl rfl rfl (vX3_best_5 s a1 a2 hp x1 x2 x3 x4 x5 x6 f11 f12 f13 f14 f15 f16 f17 f18 f19 k0 k25 k33 k34 hI c_1)
  · rintro x1 x2 x3 x4 x5 x6 x7 f11 f12 f13 f14 f15 f16 f17 f18 f19 k0 k25 k33 k34 rfl rfl rfl hI
    refine bX3_best_72 b s x1 x2 x3 x4 x5 x6 x7 f11 f12 f13 f14 f15 f16 f17 f18 f19 k0 k25 k33 k34 ?_
    refine ⟨fun c_1 => ?_, fun c_1 => ?_⟩
    · have o_2 : (rng f13 ((s.2 6) 2) ∧ 0 ≤ (s.2 6) 2 ∧ (s.2 6) 2 ≤ 10000) := (vX3_best_7 s a1 a2 hp x1 x2 x3 x4 x5 x6 x7 f11 f12 f13 f14 f15 f16 f17 f18 f19 k0 k25 k33 k34 hI c_1)
      refine ⟨o_2, ?_⟩
      intro f_3
      refine ⟨fun c_5 => ?_, fun c_5 => ?_⟩
      · refine ⟨fun c_6 => ?_, fun c_6 => ?_⟩
        · have o_7 : (tOK (s.2 6)) := (vX3_best_8 s a1 a2 hp x1 x2 x3 x4 x5 x6 x7 f11 f12 f13 f14 f15 f16 f17 f18 f19 k0 k25 k33 k34 hI c_1 o_2 f_3 c_5 c_6)
          refine ⟨o_7, ?_⟩
          refine ⟨fun c_9 => ?_, fun c_9 => ?_⟩
          · exact (ih _ _ _ (vX3_best_10 s a1 a2 hp x1 x2 x3 x4 x5 x6 x7 f11 f12 f13 f14 f15 f16 f17 f18 f19 k0 k25 k33 k34 hI c_1 o_2 f_3 c_5 c_6 o_7 c_9)).1 x1 x2 x6 (maxI 0 (lay ((s.2 6) 2) (tl f13) f14) ((s.2 6) 2).toNat) x5 (i32 (x6 + 1)) f11 f12 f13 (lay ((s.2 6) 2) (tl f13) f14) (lay ((s.2 6) 2) (hm f13) f15) (lay ((s.2 6) 2) (rg f13) f16) f_3 f18 f19 k0 k25 k33 k34 rfl rfl rfl (vX3_best_9 s a1 a2 hp x1 x2 x3 x4 x5 x6 x7 f11 f12 f13 f14 f15 f16 f17 f18 f19 k0 k25 k33 k34 hI c_1 o_2 f_3 c_5 c_6 o_7 c_9)
          · exact (ih _ _ _ (vX3_best_12 s a1 a2 hp x1 x2 x3 x4 x5 x6 x7 f11 f12 f13 f14 f15 f16 f17 f18 f19 k0 k25 k33 k34 hI c_1 o_2 f_3 c_5 c_6 o_7 c_9)).1 x1 x2 x3 x4 x5 (i32 (x6 + 1)) f11 f12 f13 (lay ((s.2 6) 2) (tl f13) f14) (lay ((s.2 6) 2) (hm f13) f15) (lay ((s.2 6) 2) (rg f13) f16) f_3 f18 f19 k0 k25 k33 k34 rfl rfl rfl (vX3_best_11 s a1 a2 hp x1 x2 x3 x4 x5 x6 x7 f11 f12 f13 f14 f15 f16 f17 f18 f19 k0 k25 k33 k34 hI c_1 o_2 f_3 c_5 c_6 o_7 c_9)
        · have o_10 : (tOK (s.2 6)) := (vX3_best_13 s a1 a2 hp x1 x2 x3 x4 x5 x6 x7 f11 f12 f13 f14 f15 f16 f17 f18 f19 k0 k25 k33 k34 hI c_1 o_2 f_3 c_5 c_6)
          refine ⟨o_10, ?_⟩
          refine ⟨fun c_12 => ?_, fun c_12 => ?_⟩
          · exact (ih _ _ _ (vX3_best_15 s a1 a2 hp x1 x2 x3 x4 x5 x6 x7 f11 f12 f13 f14 f15 f16 f17 f18 f19 k0 k25 k33 k34 hI c_1 o_2 f_3 c_5 c_6 o_10 c_12)).1 x1 x2 x6 (many (fun x => (lay ((s.2 6) 2) (hm f13) f15) x = x) ((s.2 6) 2).toNat) x5 (i32 (x6 + 1)) f11 f12 f13 (lay ((s.2 6) 2) (tl f13) f14) (lay ((s.2 6) 2) (hm f13) f15) (lay ((s.2 6) 2) (rg f13) f16) f_3 f18 f19 k0 k25 k33 k34 rfl rfl rfl (vX3_best_14 s a1 a2 hp x1 x2 x3 x4 x5 x6 x7 f11 f12 f13 f14 f15 f16 f17 f18 f19 k0 k25 k33 k34 hI c_1 o_2 f_3 c_5 c_6 o_10 c_12)
          · exact (ih _ _ _ (vX3_best_17 s a1 a2 hp x1 x2 x3 x4 x5 x6 x7 f11 f12 f13 f14 f15 f16 f17 f18 f19 k0 k25 k33 k34 hI c_1 o_2 f_3 c_5 c_6 o_10 c_12)).1 x1 x2 x3 x4 x5 (i32 (x6 + 1)) f11 f12 f13 (lay ((s.2 6) 2) (tl f13) f14) (lay ((s.2 6) 2) (hm f13) f15) (lay ((s.2 6) 2) (rg f13) f16) f_3 f18 f19 k0 k25 k33 k34 rfl rfl rfl (vX3_best_16 s a1 a2 hp x1 x2 x3 x4 x5 x6 x7 f11 f12 f13 f14 f15 f16 f17 f18 f19 k0 k25 k33 k34 hI c_1 o_2 f_3 c_5 c_6 o_10 c_12)
      · have o_13 : (tOK (s.2 6)) := (vX3_best_18 s a1 a2 hp x1 x2 x3 x4 x5 x6 x7 f11 f12 f13 f14 f15 f16 f17 f18 f19 k0 k25 k33 k34 hI c_1 o_2 f_3 c_5)
        refine ⟨o_13, ?_⟩
        have o_15 : (0 ≤ (lgst (fun x => (lay ((s.2 6) 2) (hm f13) f15) x = x) (lay ((s.2 6) 2) (rg f13) f16) ((s.2 6) 2).toNat) ∧ (lgst (fun x => (lay ((s.2 6) 2) (hm f13) f15) x = x) (lay ((s.2 6) 2) (rg f13) f16) ((s.2 6) 2).toNat) < 10000) := (vX3_best_19 s a1 a2 hp x1 x2 x3 x4 x5 x6 x7 f11 f12 f13 f14 f15 f16 f17 f18 f19 k0 k25 k33 k34 hI c_1 o_2 f_3 c_5 o_13)
        refine ⟨o_15, ?_⟩
        refine ⟨fun c_16 => ?_, fun c_16 => ?_⟩
        · exact (ih _ _ _ (vX3_best_21 s a1 a2 hp x1 x2 x3 x4 x5 x6 x7 f11 f12 f13 f14 f15 f16 f17 f18 f19 k0 k25 k33 k34 hI c_1 o_2 f_3 c_5 o_13 o_15 c_16)).1 x1 x2 x6 ((lay ((s.2 6) 2) (rg f13) f16) (lgst (fun x => (lay ((s.2 6) 2) (hm f13) f15) x = x) (lay ((s.2 6) 2) (rg f13) f16) ((s.2 6) 2).toNat)) x5 (i32 (x6 + 1)) f11 f12 f13 (lay ((s.2 6) 2) (tl f13) f14) (lay ((s.2 6) 2) (hm f13) f15) (lay ((s.2 6) 2) (rg f13) f16) f_3 f18 f19 k0 k25 k33 k34 rfl rfl rfl (vX3_best_20 s a1 a2 hp x1 x2 x3 x4 x5 x6 x7 f11 f12 f13 f14 f15 f16 f17 f18 f19 k0 k25 k33 k34 hI c_1 o_2 f_3 c_5 o_13 o_15 c_16)
        · exact (ih _ _ _ (vX3_best_23 s a1 a2 hp x1 x2 x3 x4 x5 x6 x7 f11 f12 f13 f14 f15 f16 f17 f18 f19 k0 k25 k33 k34 hI c_1 o_2 f_3 c_5 o_13 o_15 c_16)).1 x1 x2 x3 x4 x5 (i32 (x6 + 1)) f11 f12 f13 (lay ((s.2 6) 2) (tl f13) f14) (lay ((s.2 6) 2) (hm f13) f15) (lay ((s.2 6) 2) (rg f13) f16) f_3 f18 f19 k0 k25 k33 k34 rfl rfl rfl (vX3_best_22 s a1 a2 hp x1 x2 x3 x4 x5 x6 x7 f11 f12 f13 f14 f15 f16 f17 f18 f19 k0 k25 k33 k34 hI c_1 o_2 f_3 c_5 o_13 o_15 c_16)
    · have o_17 : (tOK (s.2 6) ∧ (0 ≤ x7 ∧ x7 < (s.2 6) 2) ∧ (0 ≤ x1 ∧ x1 ≤ 3) ∧ 0 ≤ x6 ∧ x6 < 12 ^ (x1).toNat) := (vX3_best_24 s a1 a2 hp x1 x2 x3 x4 x5 x6 x7 f11 f12 f13 f14 f15 f16 f17 f18 f19 k0 k25 k33 k34 hI c_1)
      refine ⟨o_17, ?_⟩
      intro f_18 f_19 k_20
      have o_22 : (0 ≤ x7 ∧ x7 < 10000) := (vX3_best_25 s a1 a2 hp x1 x2 x3 x4 x5 x6 x7 f11 f12 f13 f14 f15 f16 f17 f18 f19 k0 k25 k33 k34 hI c_1 o_17 f_18 f_19 k_20)
      refine ⟨o_22, ?_⟩
      exact (ih _ _ _ (vX3_best_27 s a1 a2 hp x1 x2 x3 x4 x5 x6 x7 f11 f12 f13 f14 f15 f16 f17 f18 f19 k0 k25 k33 k34 hI c_1 o_17 f_18 f_19 k_20 o_22)).2 x1 x2 x3 x4 x5 x6 (i32 (x7 + 1)) f_18 f_19 (upI f13 x7 (rowV (s.2 6) x7 x1 x6)) f14 f15 f16 f17 f18 f19 k0 k_20 k33 k34 rfl rfl rfl (vX3_best_26 s a1 a2 hp x1 x2 x3 x4 x5 x6 x7 f11 f12 f13 f14 f15 f16 f17 f18 f19 k0 k25 k33 k34 hI c_1 o_17 f_18 f_19 k_20 o_22)
theorem ctX3_best (b : AH) (s : MS) (a1 : Int) (a2 : Int) (hp : tOK (s.2 6) ∧ lOK ((s.2 5) 0) (s.2 6)) : MC mX3_best 9 b s [vI a1, vI a2] (QX3_best s a1 a2) := by
  refine MC.of (by decide) rfl (Nat.le_of_ble_eq_true rfl) (JW.steq (s2 := sS (sS (sS (sS (sA (sA (sA (sA (sA (sA (sA (sA (sA s 11 (s.2 11)) 12 (s.2 12)) 13 (s.2 13)) 14 (s.2 14)) 15 (s.2 15)) 16 (s.2 16)) 17 (s.2 17)) 18 (s.2 18)) 19 (s.2 19)) 0 (s.1 0)) 25 (s.1 25)) 33 (s.1 33)) 34 (s.1 34)) (by simp only [sA_id, sS_id]) ?_)
  refine bX3_best_0 b s a1 a2 (s.2 11) (s.2 12) (s.2 13) (s.2 14) (s.2 15) (s.2 16) (s.2 17) (s.2 18) (s.2 19) (s.1 0) (s.1 25) (s.1 33) (s.1 34) ?_
  refine ⟨fun c_2 => ?_, fun c_2 => ?_⟩
  · exact ⟨(s.2 11), (s.2 12), (s.2 13), (s.2 14), (s.2 15), (s.2 16), (s.2 17), (s.2 18), (s.2 19), (s.1 25), (s.1 33), (s.1 34), (rI_c (vX3_best_28 s a1 a2 hp c_2)), rfl⟩
  · refine ⟨fun c_4 => ?_, fun c_4 => ?_⟩
    · exact ⟨(s.2 11), (s.2 12), (s.2 13), (s.2 14), (s.2 15), (s.2 16), (s.2 17), (s.2 18), (s.2 19), (s.1 25), (s.1 33), (s.1 34), (rI_c (vX3_best_29 s a1 a2 hp c_2 c_4)), rfl⟩
    · refine ⟨fun c_6 => ?_, fun c_6 => ?_⟩
      · refine ⟨fun c_7 => ?_, fun c_7 => ?_⟩
        · exact (allX3_best b s a1 a2 hp _ _ _).1 a1 a2 (-1) (-1) 144 0 (s.2 11) (s.2 12) (s.2 13) (s.2 14) (s.2 15) (s.2 16) (s.2 17) (s.2 18) (s.2 19) 0 (s.1 25) (s.1 33) (s.1 34) rfl rfl rfl (vX3_best_30 s a1 a2 hp c_2 c_4 c_6 c_7)
        · exact (allX3_best b s a1 a2 hp _ _ _).1 a1 a2 (-1) (-1) 12 0 (s.2 11) (s.2 12) (s.2 13) (s.2 14) (s.2 15) (s.2 16) (s.2 17) (s.2 18) (s.2 19) 0 (s.1 25) (s.1 33) (s.1 34) rfl rfl rfl (vX3_best_31 s a1 a2 hp c_2 c_4 c_6 c_7)
      · exact ⟨(s.2 11), (s.2 12), (s.2 13), (s.2 14), (s.2 15), (s.2 16), (s.2 17), (s.2 18), (s.2 19), (s.1 25), (s.1 33), (s.1 34), (rI_c (vX3_best_32 s a1 a2 hp c_2 c_4 c_6)), rfl⟩
