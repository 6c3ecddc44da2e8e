/-! ROWS: the stack and the locals -/
set_option maxRecDepth 100000
def okIb (n : Int) : Bool := decide (-2147483648 ≤ n) && decide (n < 2147483648)
def okLb (n : Int) : Bool := decide (-9223372036854775808 ≤ n) && decide (n < 9223372036854775808)
def okBb (n : Int) : Bool := decide (-128 ≤ n) && decide (n < 128)
def okSb (n : Int) : Bool := decide (-32768 ≤ n) && decide (n < 32768)
theorem okIb_ok {n : Int} (h : okIb n = true) : okI n := by unfold okIb at h; simp only [Bool.and_eq_true, decide_eq_true_eq] at h; exact h
theorem okLb_ok {n : Int} (h : okLb n = true) : okL n := by unfold okLb at h; simp only [Bool.and_eq_true, decide_eq_true_eq] at h; exact h
theorem okBb_ok {n : Int} (h : okBb n = true) : okI n := by unfold okBb at h; simp only [Bool.and_eq_true, decide_eq_true_eq] at h; exact ⟨by omega, by omega⟩
theorem okSb_ok {n : Int} (h : okSb n = true) : okI n := by unfold okSb at h; simp only [Bool.and_eq_true, decide_eq_true_eq] at h; exact ⟨by omega, by omega⟩
theorem okBb_8 {n : Int} (h : okBb n = true) : (Int8.ofInt n).toInt32 = Int32.ofInt n := by
  have h1 := okBb_ok h
  unfold okBb at h; simp only [Bool.and_eq_true, decide_eq_true_eq] at h
  apply Int32.toInt_inj.mp
  rw [toI_of h1, Int8.toInt_toInt32]
  exact Int8.toInt_ofInt_of_le (by omega) (by omega)
theorem okSb_16 {n : Int} (h : okSb n = true) : (Int16.ofInt n).toInt32 = Int32.ofInt n := by
  have h1 := okSb_ok h
  unfold okSb at h; simp only [Bool.and_eq_true, decide_eq_true_eq] at h
  apply Int32.toInt_inj.mp
  rw [toI_of h1, Int16.toInt_toInt32]
  exact Int16.toInt_ofInt_of_le (by omega) (by omega)
section
variable {M : MI} {d : Nat} {P : Option AV → AH → Prop} {X : Nat → Nat → AH → Prop} {kc ks pc : Nat} {ls : LV} {st : List AV} {h : AH}
theorem JW.iconst {n : Int} (hd : decode M.2.1 pc = .ok (.iconst n, 1)) (hn : okIb n = true) (k : JW M d P X kc ks (pc + 1) ls (vI n :: st) h) : JW M d P X kc ks pc ls (st) h := by
  refine JW.pure (fun hl hu => ?_) (fun p l e R s m args below meth c Qf ad H locs cells slots lr hx hb ho hw hv hl hu k => ?_) k
  · exact oks_cons (okIb_ok hn) hu
  · show W p l e R s m args below meth c H locs cells slots Qf (F0 m pc lr (st.map (trv ad)))
    refine lv_iconst (v := Int32.ofInt n) hx hb hd rfl ?_
    exact k
theorem JW.bipush {n : Int} (hd : decode M.2.1 pc = .ok (.bipush n, 2)) (hn : okBb n = true) (k : JW M d P X kc ks (pc + 2) ls (vI n :: st) h) : JW M d P X kc ks pc ls (st) h := by
  refine JW.pure (fun hl hu => ?_) (fun p l e R s m args below meth c Qf ad H locs cells slots lr hx hb ho hw hv hl hu k => ?_) k
  · exact oks_cons (okBb_ok hn) hu
  · show W p l e R s m args below meth c H locs cells slots Qf (F0 m pc lr (st.map (trv ad)))
    refine lv_bipush (v := Int32.ofInt n) hx hb hd (okBb_8 hn) ?_
    exact k
theorem JW.sipush {n : Int} (hd : decode M.2.1 pc = .ok (.sipush n, 3)) (hn : okSb n = true) (k : JW M d P X kc ks (pc + 3) ls (vI n :: st) h) : JW M d P X kc ks pc ls (st) h := by
  refine JW.pure (fun hl hu => ?_) (fun p l e R s m args below meth c Qf ad H locs cells slots lr hx hb ho hw hv hl hu k => ?_) k
  · exact oks_cons (okSb_ok hn) hu
  · show W p l e R s m args below meth c H locs cells slots Qf (F0 m pc lr (st.map (trv ad)))
    refine lv_sipush (v := Int32.ofInt n) hx hb hd (okSb_16 hn) ?_
    exact k
theorem JW.lconst {n : Fin 2} {x : Int} (hd : decode M.2.1 pc = .ok (.lconst n, 1)) (hn : (n.val : Int) = x) (k : JW M d P X kc ks (pc + 1) ls (vL x :: st) h) : JW M d P X kc ks pc ls (st) h := by
  refine JW.pure (fun hl hu => ?_) (fun p l e R s m args below meth c Qf ad H locs cells slots lr hx hb ho hw hv hl hu k => ?_) k
  · exact oks_cons (show okL x from by rw [← hn]; exact ⟨by omega, by omega⟩) hu
  · show W p l e R s m args below meth c H locs cells slots Qf (F0 m pc lr (st.map (trv ad)))
    refine lv_lconst (v := Int64.ofInt x) hx hb hd (by rw [← hn]; exact (Int64.ofInt_eq_ofNat ..).symm) ?_
    exact k
theorem JW.null  (hd : decode M.2.1 pc = .ok (.aconst_null, 1)) (k : JW M d P X kc ks (pc + 1) ls (vN :: st) h) : JW M d P X kc ks pc ls (st) h := by
  refine JW.pure (fun hl hu => ?_) (fun p l e R s m args below meth c Qf ad H locs cells slots lr hx hb ho hw hv hl hu k => ?_) k
  · exact oks_cons trivial hu
  · show W p l e R s m args below meth c H locs cells slots Qf (F0 m pc lr (st.map (trv ad)))
    refine lv_null hx hb hd ?_
    exact k
theorem JW.ldc {i : Nat} {x : Int} (hd : decode M.2.1 pc = .ok (.ldc i, 2)) (hc : Cond.constant M.1.cls i (Int32.ofInt x) ∈ lw_all) (hn : okIb x = true) (k : JW M d P X kc ks (pc + 2) ls (vI x :: st) h) : JW M d P X kc ks pc ls (st) h := by
  refine JW.pure (fun hl hu => ?_) (fun p l e R s m args below meth c Qf ad H locs cells slots lr hx hb ho hw hv hl hu k => ?_) k
  · exact oks_cons (okIb_ok hn) hu
  · show W p l e R s m args below meth c H locs cells slots Qf (F0 m pc lr (st.map (trv ad)))
    refine lv_ldc hx hb ho (hw _ hc) hd ?_
    exact k
theorem JW.ldcw {i : Nat} {x : Int} (hd : decode M.2.1 pc = .ok (.ldc_w i, 3)) (hc : Cond.constant M.1.cls i (Int32.ofInt x) ∈ lw_all) (hn : okIb x = true) (k : JW M d P X kc ks (pc + 3) ls (vI x :: st) h) : JW M d P X kc ks pc ls (st) h := by
  refine JW.pure (fun hl hu => ?_) (fun p l e R s m args below meth c Qf ad H locs cells slots lr hx hb ho hw hv hl hu k => ?_) k
  · exact oks_cons (okIb_ok hn) hu
  · show W p l e R s m args below meth c H locs cells slots Qf (F0 m pc lr (st.map (trv ad)))
    refine lv_ldcw hx hb ho (hw _ hc) hd ?_
    exact k
theorem JW.ldc2 {i : Nat} {x : Int} (hd : decode M.2.1 pc = .ok (.ldc2_w i, 3)) (hc : Cond.constantLong M.1.cls i (Int64.ofInt x) ∈ lw_all) (hn : okLb x = true) (k : JW M d P X kc ks (pc + 3) ls (vL x :: st) h) : JW M d P X kc ks pc ls (st) h := by
  refine JW.pure (fun hl hu => ?_) (fun p l e R s m args below meth c Qf ad H locs cells slots lr hx hb ho hw hv hl hu k => ?_) k
  · exact oks_cons (okLb_ok hn) hu
  · show W p l e R s m args below meth c H locs cells slots Qf (F0 m pc lr (st.map (trv ad)))
    refine lv_ldc2 hx hb ho (hw _ hc) hd ?_
    exact k
theorem JW.iload_n {n : Fin 4} {x : Int} (hd : decode M.2.1 pc = .ok (.iload_n n, 1)) (hg : alook ls n.val = some (vI x)) (k : JW M d P X kc ks (pc + 1) ls (vI x :: st) h) : JW M d P X kc ks pc ls (st) h := by
  refine JW.pure (fun hl hu => ?_) (fun p l e R s m args below meth c Qf ad H locs cells slots lr hx hb ho hw hv hl hu k => ?_) k
  · exact oks_cons (hl _ (alook_mem hg)) hu
  · show W p l e R s m args below meth c H locs cells slots Qf (F0 m pc lr (st.map (trv ad)))
    refine lv_iload_n hx hb hd rfl (hv.2.2 _ (trl_mem (alook_mem hg))) ?_
    exact k
theorem JW.iload {i : Nat} {x : Int} (hd : decode M.2.1 pc = .ok (.iload i, 2)) (hg : alook ls i = some (vI x)) (k : JW M d P X kc ks (pc + 2) ls (vI x :: st) h) : JW M d P X kc ks pc ls (st) h := by
  refine JW.pure (fun hl hu => ?_) (fun p l e R s m args below meth c Qf ad H locs cells slots lr hx hb ho hw hv hl hu k => ?_) k
  · exact oks_cons (hl _ (alook_mem hg)) hu
  · show W p l e R s m args below meth c H locs cells slots Qf (F0 m pc lr (st.map (trv ad)))
    refine lv_iload hx hb hd (hv.2.2 _ (trl_mem (alook_mem hg))) ?_
    exact k
theorem JW.lload_n {n : Fin 4} {x : Int} (hd : decode M.2.1 pc = .ok (.lload_n n, 1)) (hg : alook ls n.val = some (vL x)) (k : JW M d P X kc ks (pc + 1) ls (vL x :: st) h) : JW M d P X kc ks pc ls (st) h := by
  refine JW.pure (fun hl hu => ?_) (fun p l e R s m args below meth c Qf ad H locs cells slots lr hx hb ho hw hv hl hu k => ?_) k
  · exact oks_cons (hl _ (alook_mem hg)) hu
  · show W p l e R s m args below meth c H locs cells slots Qf (F0 m pc lr (st.map (trv ad)))
    refine lv_lload_n hx hb hd rfl (hv.2.2 _ (trl_mem (alook_mem hg))) ?_
    exact k
theorem JW.lload {i : Nat} {x : Int} (hd : decode M.2.1 pc = .ok (.lload i, 2)) (hg : alook ls i = some (vL x)) (k : JW M d P X kc ks (pc + 2) ls (vL x :: st) h) : JW M d P X kc ks pc ls (st) h := by
  refine JW.pure (fun hl hu => ?_) (fun p l e R s m args below meth c Qf ad H locs cells slots lr hx hb ho hw hv hl hu k => ?_) k
  · exact oks_cons (hl _ (alook_mem hg)) hu
  · show W p l e R s m args below meth c H locs cells slots Qf (F0 m pc lr (st.map (trv ad)))
    refine lv_lload hx hb hd (hv.2.2 _ (trl_mem (alook_mem hg))) ?_
    exact k
theorem JW.aload_n {n : Fin 4} {q : Nat} (hd : decode M.2.1 pc = .ok (.aload_n n, 1)) (hg : alook ls n.val = some (vR q)) (k : JW M d P X kc ks (pc + 1) ls (vR q :: st) h) : JW M d P X kc ks pc ls (st) h := by
  refine JW.pure (fun hl hu => ?_) (fun p l e R s m args below meth c Qf ad H locs cells slots lr hx hb ho hw hv hl hu k => ?_) k
  · exact oks_cons (hl _ (alook_mem hg)) hu
  · show W p l e R s m args below meth c H locs cells slots Qf (F0 m pc lr (st.map (trv ad)))
    refine lv_aload_n hx hb hd rfl (hv.2.2 _ (trl_mem (alook_mem hg))) ?_
    exact k
theorem JW.aload {i : Nat} {q : Nat} (hd : decode M.2.1 pc = .ok (.aload i, 2)) (hg : alook ls i = some (vR q)) (k : JW M d P X kc ks (pc + 2) ls (vR q :: st) h) : JW M d P X kc ks pc ls (st) h := by
  refine JW.pure (fun hl hu => ?_) (fun p l e R s m args below meth c Qf ad H locs cells slots lr hx hb ho hw hv hl hu k => ?_) k
  · exact oks_cons (hl _ (alook_mem hg)) hu
  · show W p l e R s m args below meth c H locs cells slots Qf (F0 m pc lr (st.map (trv ad)))
    refine lv_aload hx hb hd (hv.2.2 _ (trl_mem (alook_mem hg))) ?_
    exact k
theorem JW.aload_nN {n : Fin 4} (hd : decode M.2.1 pc = .ok (.aload_n n, 1)) (hg : alook ls n.val = some vN) (k : JW M d P X kc ks (pc + 1) ls (vN :: st) h) : JW M d P X kc ks pc ls (st) h := by
  refine JW.pure (fun hl hu => ?_) (fun p l e R s m args below meth c Qf ad H locs cells slots lr hx hb ho hw hv hl hu k => ?_) k
  · exact oks_cons trivial hu
  · show W p l e R s m args below meth c H locs cells slots Qf (F0 m pc lr (st.map (trv ad)))
    refine lv_aload_nN hx hb hd rfl (hv.2.2 _ (trl_mem (alook_mem hg))) ?_
    exact k
theorem JW.aloadN {i : Nat} (hd : decode M.2.1 pc = .ok (.aload i, 2)) (hg : alook ls i = some vN) (k : JW M d P X kc ks (pc + 2) ls (vN :: st) h) : JW M d P X kc ks pc ls (st) h := by
  refine JW.pure (fun hl hu => ?_) (fun p l e R s m args below meth c Qf ad H locs cells slots lr hx hb ho hw hv hl hu k => ?_) k
  · exact oks_cons trivial hu
  · show W p l e R s m args below meth c H locs cells slots Qf (F0 m pc lr (st.map (trv ad)))
    refine lv_aloadN hx hb hd (hv.2.2 _ (trl_mem (alook_mem hg))) ?_
    exact k
theorem JW.dup {v : AV} (hd : decode M.2.1 pc = .ok (.dup, 1)) (hc : vcat v = 1) (k : JW M d P X kc ks (pc + 1) ls (v :: v :: st) h) : JW M d P X kc ks pc ls (v :: st) h := by
  refine JW.pure (fun hl hu => ?_) (fun p l e R s m args below meth c Qf ad H locs cells slots lr hx hb ho hw hv hl hu k => ?_) k
  · exact oks_cons (oks_1 hu) hu
  · show W p l e R s m args below meth c H locs cells slots Qf (F0 m pc lr ((trv ad (v)) :: st.map (trv ad)))
    refine lv_dup hx hb hd ((trv_cat ad v).trans hc) ?_
    exact k
theorem JW.pop {v : AV} (hd : decode M.2.1 pc = .ok (.pop, 1)) (hc : vcat v = 1) (k : JW M d P X kc ks (pc + 1) ls (st) h) : JW M d P X kc ks pc ls (v :: st) h := by
  refine JW.pure (fun hl hu => ?_) (fun p l e R s m args below meth c Qf ad H locs cells slots lr hx hb ho hw hv hl hu k => ?_) k
  · exact oks_t hu
  · show W p l e R s m args below meth c H locs cells slots Qf (F0 m pc lr ((trv ad (v)) :: st.map (trv ad)))
    refine lv_pop hx hb hd ((trv_cat ad v).trans hc) ?_
    exact k
theorem JW.dup_x1 {v w : AV} (hd : decode M.2.1 pc = .ok (.dup_x1, 1)) (hc : vcat v = 1) (hc2 : vcat w = 1) (k : JW M d P X kc ks (pc + 1) ls (v :: w :: v :: st) h) : JW M d P X kc ks pc ls (v :: w :: st) h := by
  refine JW.pure (fun hl hu => ?_) (fun p l e R s m args below meth c Qf ad H locs cells slots lr hx hb ho hw hv hl hu k => ?_) k
  · exact oks_cons (oks_1 hu) (oks_cons (oks_1 (oks_t hu)) (oks_cons (oks_1 hu) (oks_t (oks_t hu))))
  · show W p l e R s m args below meth c H locs cells slots Qf (F0 m pc lr ((trv ad (v)) :: (trv ad (w)) :: st.map (trv ad)))
    refine lv_dup_x1 hx hb hd ((trv_cat ad v).trans hc) ((trv_cat ad w).trans hc2) ?_
    exact k
theorem JW.dup2_11 {v w : AV} (hd : decode M.2.1 pc = .ok (.dup2, 1)) (hc : vcat v = 1) (hc2 : vcat w = 1) (k : JW M d P X kc ks (pc + 1) ls (v :: w :: v :: w :: st) h) : JW M d P X kc ks pc ls (v :: w :: st) h := by
  refine JW.pure (fun hl hu => ?_) (fun p l e R s m args below meth c Qf ad H locs cells slots lr hx hb ho hw hv hl hu k => ?_) k
  · exact oks_cons (oks_1 hu) (oks_cons (oks_1 (oks_t hu)) hu)
  · show W p l e R s m args below meth c H locs cells slots Qf (F0 m pc lr ((trv ad (v)) :: (trv ad (w)) :: st.map (trv ad)))
    refine lv_dup2_11 hx hb hd ((trv_cat ad v).trans hc) ((trv_cat ad w).trans hc2) ?_
    exact k
theorem JW.dup2_2 {v : AV} (hd : decode M.2.1 pc = .ok (.dup2, 1)) (hc : vcat v = 2) (k : JW M d P X kc ks (pc + 1) ls (v :: v :: st) h) : JW M d P X kc ks pc ls (v :: st) h := by
  refine JW.pure (fun hl hu => ?_) (fun p l e R s m args below meth c Qf ad H locs cells slots lr hx hb ho hw hv hl hu k => ?_) k
  · exact oks_cons (oks_1 hu) hu
  · show W p l e R s m args below meth c H locs cells slots Qf (F0 m pc lr ((trv ad (v)) :: st.map (trv ad)))
    refine lv_dup2_2 hx hb hd ((trv_cat ad v).trans hc) ?_
    exact k
theorem JW.iadd {x y : Int} (hd : decode M.2.1 pc = .ok (.iadd, 1)) (k : JW M d P X kc ks (pc + 1) ls (vI (i32 (x + y)) :: st) h) : JW M d P X kc ks pc ls (vI y :: vI x :: st) h := by
  refine JW.pure (fun hl hu => ?_) (fun p l e R s m args below meth c Qf ad H locs cells slots lr hx hb ho hw hv hl hu k => ?_) k
  · exact oks_cons (i32_ok _) (oks_t (oks_t hu))
  · show W p l e R s m args below meth c H locs cells slots Qf (F0 m pc lr ((.int (Int32.ofInt (y))) :: (.int (Int32.ofInt (x))) :: st.map (trv ad)))
    refine lv_iadd hx hb hd ?_
    rw [← Int32.ofInt_add, ← i32_of]
    exact k
theorem JW.isub {x y : Int} (hd : decode M.2.1 pc = .ok (.isub, 1)) (k : JW M d P X kc ks (pc + 1) ls (vI (i32 (x - y)) :: st) h) : JW M d P X kc ks pc ls (vI y :: vI x :: st) h := by
  refine JW.pure (fun hl hu => ?_) (fun p l e R s m args below meth c Qf ad H locs cells slots lr hx hb ho hw hv hl hu k => ?_) k
  · exact oks_cons (i32_ok _) (oks_t (oks_t hu))
  · show W p l e R s m args below meth c H locs cells slots Qf (F0 m pc lr ((.int (Int32.ofInt (y))) :: (.int (Int32.ofInt (x))) :: st.map (trv ad)))
    refine lv_isub hx hb hd ?_
    rw [← Int32.ofInt_sub, ← i32_of]
    exact k
theorem JW.imul {x y : Int} (hd : decode M.2.1 pc = .ok (.imul, 1)) (k : JW M d P X kc ks (pc + 1) ls (vI (i32 (x * y)) :: st) h) : JW M d P X kc ks pc ls (vI y :: vI x :: st) h := by
  refine JW.pure (fun hl hu => ?_) (fun p l e R s m args below meth c Qf ad H locs cells slots lr hx hb ho hw hv hl hu k => ?_) k
  · exact oks_cons (i32_ok _) (oks_t (oks_t hu))
  · show W p l e R s m args below meth c H locs cells slots Qf (F0 m pc lr ((.int (Int32.ofInt (y))) :: (.int (Int32.ofInt (x))) :: st.map (trv ad)))
    refine lv_imul hx hb hd ?_
    rw [← Int32.ofInt_mul, ← i32_of]
    exact k
theorem JW.ladd {x y : Int} (hd : decode M.2.1 pc = .ok (.ladd, 1)) (k : JW M d P X kc ks (pc + 1) ls (vL (i64 (x + y)) :: st) h) : JW M d P X kc ks pc ls (vL y :: vL x :: st) h := by
  refine JW.pure (fun hl hu => ?_) (fun p l e R s m args below meth c Qf ad H locs cells slots lr hx hb ho hw hv hl hu k => ?_) k
  · exact oks_cons (i64_ok _) (oks_t (oks_t hu))
  · show W p l e R s m args below meth c H locs cells slots Qf (F0 m pc lr ((.long (Int64.ofInt (y))) :: (.long (Int64.ofInt (x))) :: st.map (trv ad)))
    refine lv_ladd hx hb hd ?_
    rw [← Int64.ofInt_add, ← i64_of]
    exact k
theorem JW.lsub {x y : Int} (hd : decode M.2.1 pc = .ok (.lsub, 1)) (k : JW M d P X kc ks (pc + 1) ls (vL (i64 (x - y)) :: st) h) : JW M d P X kc ks pc ls (vL y :: vL x :: st) h := by
  refine JW.pure (fun hl hu => ?_) (fun p l e R s m args below meth c Qf ad H locs cells slots lr hx hb ho hw hv hl hu k => ?_) k
  · exact oks_cons (i64_ok _) (oks_t (oks_t hu))
  · show W p l e R s m args below meth c H locs cells slots Qf (F0 m pc lr ((.long (Int64.ofInt (y))) :: (.long (Int64.ofInt (x))) :: st.map (trv ad)))
    refine lv_lsub hx hb hd ?_
    rw [← Int64.ofInt_sub, ← i64_of]
    exact k
theorem JW.lmul {x y : Int} (hd : decode M.2.1 pc = .ok (.lmul, 1)) (k : JW M d P X kc ks (pc + 1) ls (vL (i64 (x * y)) :: st) h) : JW M d P X kc ks pc ls (vL y :: vL x :: st) h := by
  refine JW.pure (fun hl hu => ?_) (fun p l e R s m args below meth c Qf ad H locs cells slots lr hx hb ho hw hv hl hu k => ?_) k
  · exact oks_cons (i64_ok _) (oks_t (oks_t hu))
  · show W p l e R s m args below meth c H locs cells slots Qf (F0 m pc lr ((.long (Int64.ofInt (y))) :: (.long (Int64.ofInt (x))) :: st.map (trv ad)))
    refine lv_lmul hx hb hd ?_
    rw [← Int64.ofInt_mul, ← i64_of]
    exact k
theorem JW.idiv {x y : Int} (hd : decode M.2.1 pc = .ok (.idiv, 1)) (hz : y ≠ 0) (k : JW M d P X kc ks (pc + 1) ls (vI (i32 (x.tdiv y)) :: st) h) : JW M d P X kc ks pc ls (vI y :: vI x :: st) h := by
  refine JW.pure (fun hl hu => ?_) (fun p l e R s m args below meth c Qf ad H locs cells slots lr hx hb ho hw hv hl hu k => ?_) k
  · exact oks_cons (i32_ok _) (oks_t (oks_t hu))
  · show W p l e R s m args below meth c H locs cells slots Qf (F0 m pc lr ((.int (Int32.ofInt (y))) :: (.int (Int32.ofInt (x))) :: st.map (trv ad)))
    refine lv_idiv hx hb hd (fun q => hz ((ofI_eq0 (oks_1 hu)).mp q)) ?_
    rw [ofI_div (oks_1 (oks_t hu)) (oks_1 hu)]
    exact k
theorem JW.irem {x y : Int} (hd : decode M.2.1 pc = .ok (.irem, 1)) (hz : y ≠ 0) (k : JW M d P X kc ks (pc + 1) ls (vI (i32 (x.tmod y)) :: st) h) : JW M d P X kc ks pc ls (vI y :: vI x :: st) h := by
  refine JW.pure (fun hl hu => ?_) (fun p l e R s m args below meth c Qf ad H locs cells slots lr hx hb ho hw hv hl hu k => ?_) k
  · exact oks_cons (i32_ok _) (oks_t (oks_t hu))
  · show W p l e R s m args below meth c H locs cells slots Qf (F0 m pc lr ((.int (Int32.ofInt (y))) :: (.int (Int32.ofInt (x))) :: st.map (trv ad)))
    refine lv_irem hx hb hd (fun q => hz ((ofI_eq0 (oks_1 hu)).mp q)) ?_
    rw [ofI_rem (oks_1 (oks_t hu)) (oks_1 hu)]
    exact k
theorem JW.ldiv {x y : Int} (hd : decode M.2.1 pc = .ok (.ldiv, 1)) (hz : y ≠ 0) (k : JW M d P X kc ks (pc + 1) ls (vL (i64 (x.tdiv y)) :: st) h) : JW M d P X kc ks pc ls (vL y :: vL x :: st) h := by
  refine JW.pure (fun hl hu => ?_) (fun p l e R s m args below meth c Qf ad H locs cells slots lr hx hb ho hw hv hl hu k => ?_) k
  · exact oks_cons (i64_ok _) (oks_t (oks_t hu))
  · show W p l e R s m args below meth c H locs cells slots Qf (F0 m pc lr ((.long (Int64.ofInt (y))) :: (.long (Int64.ofInt (x))) :: st.map (trv ad)))
    refine lv_ldiv hx hb hd (fun q => hz ((ofL_eq0 (oks_1 hu)).mp q)) ?_
    rw [ofL_div (oks_1 (oks_t hu)) (oks_1 hu)]
    exact k
theorem JW.lrem {x y : Int} (hd : decode M.2.1 pc = .ok (.lrem, 1)) (hz : y ≠ 0) (k : JW M d P X kc ks (pc + 1) ls (vL (i64 (x.tmod y)) :: st) h) : JW M d P X kc ks pc ls (vL y :: vL x :: st) h := by
  refine JW.pure (fun hl hu => ?_) (fun p l e R s m args below meth c Qf ad H locs cells slots lr hx hb ho hw hv hl hu k => ?_) k
  · exact oks_cons (i64_ok _) (oks_t (oks_t hu))
  · show W p l e R s m args below meth c H locs cells slots Qf (F0 m pc lr ((.long (Int64.ofInt (y))) :: (.long (Int64.ofInt (x))) :: st.map (trv ad)))
    refine lv_lrem hx hb hd (fun q => hz ((ofL_eq0 (oks_1 hu)).mp q)) ?_
    rw [ofL_rem (oks_1 (oks_t hu)) (oks_1 hu)]
    exact k
theorem JW.iand {x y : Int} (hd : decode M.2.1 pc = .ok (.iand, 1)) (k : JW M d P X kc ks (pc + 1) ls (vI (jand x y) :: st) h) : JW M d P X kc ks pc ls (vI y :: vI x :: st) h := by
  refine JW.pure (fun hl hu => ?_) (fun p l e R s m args below meth c Qf ad H locs cells slots lr hx hb ho hw hv hl hu k => ?_) k
  · exact oks_cons (okI_jand _ _) (oks_t (oks_t hu))
  · show W p l e R s m args below meth c H locs cells slots Qf (F0 m pc lr ((.int (Int32.ofInt (y))) :: (.int (Int32.ofInt (x))) :: st.map (trv ad)))
    refine lv_iand hx hb hd ?_
    rw [← of_toI (Int32.ofInt x &&& Int32.ofInt y)]
    exact k
theorem JW.ior {x y : Int} (hd : decode M.2.1 pc = .ok (.ior, 1)) (k : JW M d P X kc ks (pc + 1) ls (vI (jor x y) :: st) h) : JW M d P X kc ks pc ls (vI y :: vI x :: st) h := by
  refine JW.pure (fun hl hu => ?_) (fun p l e R s m args below meth c Qf ad H locs cells slots lr hx hb ho hw hv hl hu k => ?_) k
  · exact oks_cons (okI_jor _ _) (oks_t (oks_t hu))
  · show W p l e R s m args below meth c H locs cells slots Qf (F0 m pc lr ((.int (Int32.ofInt (y))) :: (.int (Int32.ofInt (x))) :: st.map (trv ad)))
    refine lv_ior hx hb hd ?_
    rw [← of_toI (Int32.ofInt x ||| Int32.ofInt y)]
    exact k
theorem JW.ishl {x y : Int} (hd : decode M.2.1 pc = .ok (.ishl, 1)) (k : JW M d P X kc ks (pc + 1) ls (vI (jshl x y) :: st) h) : JW M d P X kc ks pc ls (vI y :: vI x :: st) h := by
  refine JW.pure (fun hl hu => ?_) (fun p l e R s m args below meth c Qf ad H locs cells slots lr hx hb ho hw hv hl hu k => ?_) k
  · exact oks_cons (okI_jshl _ _) (oks_t (oks_t hu))
  · show W p l e R s m args below meth c H locs cells slots Qf (F0 m pc lr ((.int (Int32.ofInt (y))) :: (.int (Int32.ofInt (x))) :: st.map (trv ad)))
    refine lv_ishl hx hb hd ?_
    rw [← of_toI (Int32.ofInt x <<< (Int32.ofInt y &&& 31))]
    exact k
theorem JW.ishr {x y : Int} (hd : decode M.2.1 pc = .ok (.ishr, 1)) (k : JW M d P X kc ks (pc + 1) ls (vI (jshr x y) :: st) h) : JW M d P X kc ks pc ls (vI y :: vI x :: st) h := by
  refine JW.pure (fun hl hu => ?_) (fun p l e R s m args below meth c Qf ad H locs cells slots lr hx hb ho hw hv hl hu k => ?_) k
  · exact oks_cons (okI_jshr _ _) (oks_t (oks_t hu))
  · show W p l e R s m args below meth c H locs cells slots Qf (F0 m pc lr ((.int (Int32.ofInt (y))) :: (.int (Int32.ofInt (x))) :: st.map (trv ad)))
    refine lv_ishr hx hb hd ?_
    rw [← of_toI (Int32.ofInt x >>> (Int32.ofInt y &&& 31))]
    exact k
theorem JW.iushr {x y : Int} (hd : decode M.2.1 pc = .ok (.iushr, 1)) (k : JW M d P X kc ks (pc + 1) ls (vI (jushr x y) :: st) h) : JW M d P X kc ks pc ls (vI y :: vI x :: st) h := by
  refine JW.pure (fun hl hu => ?_) (fun p l e R s m args below meth c Qf ad H locs cells slots lr hx hb ho hw hv hl hu k => ?_) k
  · exact oks_cons (okI_jushr _ _) (oks_t (oks_t hu))
  · show W p l e R s m args below meth c H locs cells slots Qf (F0 m pc lr ((.int (Int32.ofInt (y))) :: (.int (Int32.ofInt (x))) :: st.map (trv ad)))
    refine lv_iushr (v := Int32.ofInt (jushr x y)) hx hb hd (of_toI _).symm ?_
    exact k
theorem JW.land {x y : Int} (hd : decode M.2.1 pc = .ok (.land, 1)) (k : JW M d P X kc ks (pc + 1) ls (vL (jland x y) :: st) h) : JW M d P X kc ks pc ls (vL y :: vL x :: st) h := by
  refine JW.pure (fun hl hu => ?_) (fun p l e R s m args below meth c Qf ad H locs cells slots lr hx hb ho hw hv hl hu k => ?_) k
  · exact oks_cons (okL_jland _ _) (oks_t (oks_t hu))
  · show W p l e R s m args below meth c H locs cells slots Qf (F0 m pc lr ((.long (Int64.ofInt (y))) :: (.long (Int64.ofInt (x))) :: st.map (trv ad)))
    refine lv_land hx hb hd ?_
    rw [← of_toL (Int64.ofInt x &&& Int64.ofInt y)]
    exact k
theorem JW.lor {x y : Int} (hd : decode M.2.1 pc = .ok (.lor, 1)) (k : JW M d P X kc ks (pc + 1) ls (vL (jlor x y) :: st) h) : JW M d P X kc ks pc ls (vL y :: vL x :: st) h := by
  refine JW.pure (fun hl hu => ?_) (fun p l e R s m args below meth c Qf ad H locs cells slots lr hx hb ho hw hv hl hu k => ?_) k
  · exact oks_cons (okL_jlor _ _) (oks_t (oks_t hu))
  · show W p l e R s m args below meth c H locs cells slots Qf (F0 m pc lr ((.long (Int64.ofInt (y))) :: (.long (Int64.ofInt (x))) :: st.map (trv ad)))
    refine lv_lor hx hb hd ?_
    rw [← of_toL (Int64.ofInt x ||| Int64.ofInt y)]
    exact k
theorem JW.lshl {x y : Int} (hd : decode M.2.1 pc = .ok (.lshl, 1)) (k : JW M d P X kc ks (pc + 1) ls (vL (jlshl x y) :: st) h) : JW M d P X kc ks pc ls (vI y :: vL x :: st) h := by
  refine JW.pure (fun hl hu => ?_) (fun p l e R s m args below meth c Qf ad H locs cells slots lr hx hb ho hw hv hl hu k => ?_) k
  · exact oks_cons (okL_jlshl _ _) (oks_t (oks_t hu))
  · show W p l e R s m args below meth c H locs cells slots Qf (F0 m pc lr ((.int (Int32.ofInt (y))) :: (.long (Int64.ofInt (x))) :: st.map (trv ad)))
    refine lv_lshl (v := Int64.ofInt (jlshl x y)) hx hb hd (of_toL _).symm ?_
    exact k
theorem JW.lcmp {x y : Int} (hd : decode M.2.1 pc = .ok (.lcmp, 1)) (k : JW M d P X kc ks (pc + 1) ls (vI (jcmp x y) :: st) h) : JW M d P X kc ks pc ls (vL y :: vL x :: st) h := by
  refine JW.pure (fun hl hu => ?_) (fun p l e R s m args below meth c Qf ad H locs cells slots lr hx hb ho hw hv hl hu k => ?_) k
  · exact oks_cons (okI_jcmp _ _) (oks_t (oks_t hu))
  · show W p l e R s m args below meth c H locs cells slots Qf (F0 m pc lr ((.long (Int64.ofInt (y))) :: (.long (Int64.ofInt (x))) :: st.map (trv ad)))
    refine W.lcmp hx hb hd ?_
    rw [ofL_cmp (oks_1 (oks_t hu)) (oks_1 hu)]
    exact k
theorem JW.ineg {x : Int} (hd : decode M.2.1 pc = .ok (.ineg, 1)) (k : JW M d P X kc ks (pc + 1) ls (vI (i32 (-x)) :: st) h) : JW M d P X kc ks pc ls (vI x :: st) h := by
  refine JW.pure (fun hl hu => ?_) (fun p l e R s m args below meth c Qf ad H locs cells slots lr hx hb ho hw hv hl hu k => ?_) k
  · exact oks_cons (i32_ok _) (oks_t hu)
  · show W p l e R s m args below meth c H locs cells slots Qf (F0 m pc lr ((.int (Int32.ofInt (x))) :: st.map (trv ad)))
    refine lv_ineg hx hb hd ?_
    rw [← Int32.ofInt_neg, ← i32_of]
    exact k
theorem JW.i2l {x : Int} (hd : decode M.2.1 pc = .ok (.i2l, 1)) (k : JW M d P X kc ks (pc + 1) ls (vL x :: st) h) : JW M d P X kc ks pc ls (vI x :: st) h := by
  refine JW.pure (fun hl hu => ?_) (fun p l e R s m args below meth c Qf ad H locs cells slots lr hx hb ho hw hv hl hu k => ?_) k
  · exact oks_cons (okI_okL (oks_1 hu)) (oks_t hu)
  · show W p l e R s m args below meth c H locs cells slots Qf (F0 m pc lr ((.int (Int32.ofInt (x))) :: st.map (trv ad)))
    refine lv_i2l hx hb hd (ofI_i2l (oks_1 hu)) ?_
    exact k
theorem JW.l2i {x : Int} (hd : decode M.2.1 pc = .ok (.l2i, 1)) (k : JW M d P X kc ks (pc + 1) ls (vI (i32 x) :: st) h) : JW M d P X kc ks pc ls (vL x :: st) h := by
  refine JW.pure (fun hl hu => ?_) (fun p l e R s m args below meth c Qf ad H locs cells slots lr hx hb ho hw hv hl hu k => ?_) k
  · exact oks_cons (i32_ok _) (oks_t hu)
  · show W p l e R s m args below meth c H locs cells slots Qf (F0 m pc lr ((.long (Int64.ofInt (x))) :: st.map (trv ad)))
    refine lv_l2i hx hb hd (ofL_l2i (oks_1 hu)) ?_
    exact k
theorem JW.i2b {x : Int} (hd : decode M.2.1 pc = .ok (.i2b, 1)) (k : JW M d P X kc ks (pc + 1) ls (vI (jb8 x) :: st) h) : JW M d P X kc ks pc ls (vI x :: st) h := by
  refine JW.pure (fun hl hu => ?_) (fun p l e R s m args below meth c Qf ad H locs cells slots lr hx hb ho hw hv hl hu k => ?_) k
  · exact oks_cons (okI_jb8 _) (oks_t hu)
  · show W p l e R s m args below meth c H locs cells slots Qf (F0 m pc lr ((.int (Int32.ofInt (x))) :: st.map (trv ad)))
    refine lv_i2b (v := Int32.ofInt (jb8 x)) hx hb hd (of_toI _).symm ?_
    exact k
theorem JW.i2s {x : Int} (hd : decode M.2.1 pc = .ok (.i2s, 1)) (k : JW M d P X kc ks (pc + 1) ls (vI (js16 x) :: st) h) : JW M d P X kc ks pc ls (vI x :: st) h := by
  refine JW.pure (fun hl hu => ?_) (fun p l e R s m args below meth c Qf ad H locs cells slots lr hx hb ho hw hv hl hu k => ?_) k
  · exact oks_cons (okI_js16 _) (oks_t hu)
  · show W p l e R s m args below meth c H locs cells slots Qf (F0 m pc lr ((.int (Int32.ofInt (x))) :: st.map (trv ad)))
    refine lv_i2s (v := Int32.ofInt (js16 x)) hx hb hd (of_toI _).symm ?_
    exact k
theorem JW.i2c {x : Int} (hd : decode M.2.1 pc = .ok (.i2c, 1)) (k : JW M d P X kc ks (pc + 1) ls (vI (jc16 x) :: st) h) : JW M d P X kc ks pc ls (vI x :: st) h := by
  refine JW.pure (fun hl hu => ?_) (fun p l e R s m args below meth c Qf ad H locs cells slots lr hx hb ho hw hv hl hu k => ?_) k
  · exact oks_cons (okI_jc16 _) (oks_t hu)
  · show W p l e R s m args below meth c H locs cells slots Qf (F0 m pc lr ((.int (Int32.ofInt (x))) :: st.map (trv ad)))
    refine lv_i2c (v := Int32.ofInt (jc16 x)) hx hb hd (of_toI _).symm ?_
    exact k
theorem JW.icmp_eq {x y : Int} {off : Int} {tgt : Nat} (hd : decode M.2.1 pc = .ok (.if_icmp .eq off, 3)) (ht : (pc : Int) + off = (tgt : Int))  (kt : x = y → JW M d P X kc ks tgt ls st h) (kf : ¬ (x = y) → JW M d P X kc ks (pc + 3) ls st h) : JW M d P X kc ks pc ls (vI y :: vI x :: st) h := by
  refine JW.branch (C := x = y) (fun hu => oks_t (oks_t hu)) (fun p l e R s m args below meth c Qf ad H locs cells slots lr G hx hb hu hN hJ kt kf => ?_) kt kf
  show W p l e R s m args below meth c H locs cells slots Qf (F0 m pc lr ((.int (Int32.ofInt (y))) :: (.int (Int32.ofInt (x))) :: st.map (trv ad)))
  exact lv_icmp_eq hx hb hd ht (fun q => kt ((ofI_eq (oks_1 (oks_t hu)) (oks_1 hu)).mp q)) (fun q => kf (fun z => q ((ofI_eq (oks_1 (oks_t hu)) (oks_1 hu)).mpr z)))
theorem JW.if_eq {x : Int} {off : Int} {tgt : Nat} (hd : decode M.2.1 pc = .ok (.ifCond .eq off, 3)) (ht : (pc : Int) + off = (tgt : Int))  (kt : x = 0 → JW M d P X kc ks tgt ls st h) (kf : ¬ (x = 0) → JW M d P X kc ks (pc + 3) ls st h) : JW M d P X kc ks pc ls (vI x :: st) h := by
  refine JW.branch (C := x = 0) (fun hu => oks_t hu) (fun p l e R s m args below meth c Qf ad H locs cells slots lr G hx hb hu hN hJ kt kf => ?_) kt kf
  show W p l e R s m args below meth c H locs cells slots Qf (F0 m pc lr ((.int (Int32.ofInt (x))) :: st.map (trv ad)))
  exact lv_if_eq hx hb hd ht (fun q => kt ((ofI_eq0 (oks_1 hu)).mp q)) (fun q => kf (fun z => q ((ofI_eq0 (oks_1 hu)).mpr z)))
theorem JW.icmp_ne {x y : Int} {off : Int} {tgt : Nat} (hd : decode M.2.1 pc = .ok (.if_icmp .ne off, 3)) (ht : (pc : Int) + off = (tgt : Int)) (kt : ¬ x = y → JW M d P X kc ks tgt ls st h) (kf : x = y → JW M d P X kc ks (pc + 3) ls st h) : JW M d P X kc ks pc ls (vI y :: vI x :: st) h := by
  refine JW.branch (C := ¬ x = y) (fun hu => oks_t (oks_t hu)) (fun p l e R s m args below meth c Qf ad H locs cells slots lr G hx hb hu hN hJ kt kf => ?_) kt (fun q => kf (Classical.byContradiction q))
  show W p l e R s m args below meth c H locs cells slots Qf (F0 m pc lr ((.int (Int32.ofInt (y))) :: (.int (Int32.ofInt (x))) :: st.map (trv ad)))
  exact lv_icmp_ne hx hb hd ht (fun q => kt (fun z => q ((ofI_eq (oks_1 (oks_t hu)) (oks_1 hu)).mpr z))) (fun q => kf (fun z => z ((ofI_eq (oks_1 (oks_t hu)) (oks_1 hu)).mp q)))
theorem JW.if_ne {x : Int} {off : Int} {tgt : Nat} (hd : decode M.2.1 pc = .ok (.ifCond .ne off, 3)) (ht : (pc : Int) + off = (tgt : Int)) (kt : ¬ x = 0 → JW M d P X kc ks tgt ls st h) (kf : x = 0 → JW M d P X kc ks (pc + 3) ls st h) : JW M d P X kc ks pc ls (vI x :: st) h := by
  refine JW.branch (C := ¬ x = 0) (fun hu => oks_t hu) (fun p l e R s m args below meth c Qf ad H locs cells slots lr G hx hb hu hN hJ kt kf => ?_) kt (fun q => kf (Classical.byContradiction q))
  show W p l e R s m args below meth c H locs cells slots Qf (F0 m pc lr ((.int (Int32.ofInt (x))) :: st.map (trv ad)))
  exact lv_if_ne hx hb hd ht (fun q => kt (fun z => q ((ofI_eq0 (oks_1 hu)).mpr z))) (fun q => kf (fun z => z ((ofI_eq0 (oks_1 hu)).mp q)))
theorem JW.icmp_lt {x y : Int} {off : Int} {tgt : Nat} (hd : decode M.2.1 pc = .ok (.if_icmp .lt off, 3)) (ht : (pc : Int) + off = (tgt : Int))  (kt : x < y → JW M d P X kc ks tgt ls st h) (kf : ¬ (x < y) → JW M d P X kc ks (pc + 3) ls st h) : JW M d P X kc ks pc ls (vI y :: vI x :: st) h := by
  refine JW.branch (C := x < y) (fun hu => oks_t (oks_t hu)) (fun p l e R s m args below meth c Qf ad H locs cells slots lr G hx hb hu hN hJ kt kf => ?_) kt kf
  show W p l e R s m args below meth c H locs cells slots Qf (F0 m pc lr ((.int (Int32.ofInt (y))) :: (.int (Int32.ofInt (x))) :: st.map (trv ad)))
  exact lv_icmp_lt hx hb hd ht (fun q => kt ((ofI_lt (oks_1 (oks_t hu)) (oks_1 hu)).mp q)) (fun q => kf (fun z => q ((ofI_lt (oks_1 (oks_t hu)) (oks_1 hu)).mpr z)))
theorem JW.if_lt {x : Int} {off : Int} {tgt : Nat} (hd : decode M.2.1 pc = .ok (.ifCond .lt off, 3)) (ht : (pc : Int) + off = (tgt : Int))  (kt : x < 0 → JW M d P X kc ks tgt ls st h) (kf : ¬ (x < 0) → JW M d P X kc ks (pc + 3) ls st h) : JW M d P X kc ks pc ls (vI x :: st) h := by
  refine JW.branch (C := x < 0) (fun hu => oks_t hu) (fun p l e R s m args below meth c Qf ad H locs cells slots lr G hx hb hu hN hJ kt kf => ?_) kt kf
  show W p l e R s m args below meth c H locs cells slots Qf (F0 m pc lr ((.int (Int32.ofInt (x))) :: st.map (trv ad)))
  exact lv_if_lt hx hb hd ht (fun q => kt ((ofI_lt0 (oks_1 hu)).mp q)) (fun q => kf (fun z => q ((ofI_lt0 (oks_1 hu)).mpr z)))
theorem JW.icmp_ge {x y : Int} {off : Int} {tgt : Nat} (hd : decode M.2.1 pc = .ok (.if_icmp .ge off, 3)) (ht : (pc : Int) + off = (tgt : Int))  (kt : y ≤ x → JW M d P X kc ks tgt ls st h) (kf : ¬ (y ≤ x) → JW M d P X kc ks (pc + 3) ls st h) : JW M d P X kc ks pc ls (vI y :: vI x :: st) h := by
  refine JW.branch (C := y ≤ x) (fun hu => oks_t (oks_t hu)) (fun p l e R s m args below meth c Qf ad H locs cells slots lr G hx hb hu hN hJ kt kf => ?_) kt kf
  show W p l e R s m args below meth c H locs cells slots Qf (F0 m pc lr ((.int (Int32.ofInt (y))) :: (.int (Int32.ofInt (x))) :: st.map (trv ad)))
  exact lv_icmp_ge hx hb hd ht (fun q => kt ((ofI_le (oks_1 hu) (oks_1 (oks_t hu))).mp q)) (fun q => kf (fun z => q ((ofI_le (oks_1 hu) (oks_1 (oks_t hu))).mpr z)))
theorem JW.if_ge {x : Int} {off : Int} {tgt : Nat} (hd : decode M.2.1 pc = .ok (.ifCond .ge off, 3)) (ht : (pc : Int) + off = (tgt : Int))  (kt : 0 ≤ x → JW M d P X kc ks tgt ls st h) (kf : ¬ (0 ≤ x) → JW M d P X kc ks (pc + 3) ls st h) : JW M d P X kc ks pc ls (vI x :: st) h := by
  refine JW.branch (C := 0 ≤ x) (fun hu => oks_t hu) (fun p l e R s m args below meth c Qf ad H locs cells slots lr G hx hb hu hN hJ kt kf => ?_) kt kf
  show W p l e R s m args below meth c H locs cells slots Qf (F0 m pc lr ((.int (Int32.ofInt (x))) :: st.map (trv ad)))
  exact lv_if_ge hx hb hd ht (fun q => kt ((ofI_0le (oks_1 hu)).mp q)) (fun q => kf (fun z => q ((ofI_0le (oks_1 hu)).mpr z)))
theorem JW.icmp_gt {x y : Int} {off : Int} {tgt : Nat} (hd : decode M.2.1 pc = .ok (.if_icmp .gt off, 3)) (ht : (pc : Int) + off = (tgt : Int))  (kt : y < x → JW M d P X kc ks tgt ls st h) (kf : ¬ (y < x) → JW M d P X kc ks (pc + 3) ls st h) : JW M d P X kc ks pc ls (vI y :: vI x :: st) h := by
  refine JW.branch (C := y < x) (fun hu => oks_t (oks_t hu)) (fun p l e R s m args below meth c Qf ad H locs cells slots lr G hx hb hu hN hJ kt kf => ?_) kt kf
  show W p l e R s m args below meth c H locs cells slots Qf (F0 m pc lr ((.int (Int32.ofInt (y))) :: (.int (Int32.ofInt (x))) :: st.map (trv ad)))
  exact lv_icmp_gt hx hb hd ht (fun q => kt ((ofI_lt (oks_1 hu) (oks_1 (oks_t hu))).mp q)) (fun q => kf (fun z => q ((ofI_lt (oks_1 hu) (oks_1 (oks_t hu))).mpr z)))
theorem JW.if_gt {x : Int} {off : Int} {tgt : Nat} (hd : decode M.2.1 pc = .ok (.ifCond .gt off, 3)) (ht : (pc : Int) + off = (tgt : Int))  (kt : 0 < x → JW M d P X kc ks tgt ls st h) (kf : ¬ (0 < x) → JW M d P X kc ks (pc + 3) ls st h) : JW M d P X kc ks pc ls (vI x :: st) h := by
  refine JW.branch (C := 0 < x) (fun hu => oks_t hu) (fun p l e R s m args below meth c Qf ad H locs cells slots lr G hx hb hu hN hJ kt kf => ?_) kt kf
  show W p l e R s m args below meth c H locs cells slots Qf (F0 m pc lr ((.int (Int32.ofInt (x))) :: st.map (trv ad)))
  exact lv_if_gt hx hb hd ht (fun q => kt ((ofI_0lt (oks_1 hu)).mp q)) (fun q => kf (fun z => q ((ofI_0lt (oks_1 hu)).mpr z)))
theorem JW.icmp_le {x y : Int} {off : Int} {tgt : Nat} (hd : decode M.2.1 pc = .ok (.if_icmp .le off, 3)) (ht : (pc : Int) + off = (tgt : Int))  (kt : x ≤ y → JW M d P X kc ks tgt ls st h) (kf : ¬ (x ≤ y) → JW M d P X kc ks (pc + 3) ls st h) : JW M d P X kc ks pc ls (vI y :: vI x :: st) h := by
  refine JW.branch (C := x ≤ y) (fun hu => oks_t (oks_t hu)) (fun p l e R s m args below meth c Qf ad H locs cells slots lr G hx hb hu hN hJ kt kf => ?_) kt kf
  show W p l e R s m args below meth c H locs cells slots Qf (F0 m pc lr ((.int (Int32.ofInt (y))) :: (.int (Int32.ofInt (x))) :: st.map (trv ad)))
  exact lv_icmp_le hx hb hd ht (fun q => kt ((ofI_le (oks_1 (oks_t hu)) (oks_1 hu)).mp q)) (fun q => kf (fun z => q ((ofI_le (oks_1 (oks_t hu)) (oks_1 hu)).mpr z)))
theorem JW.if_le {x : Int} {off : Int} {tgt : Nat} (hd : decode M.2.1 pc = .ok (.ifCond .le off, 3)) (ht : (pc : Int) + off = (tgt : Int))  (kt : x ≤ 0 → JW M d P X kc ks tgt ls st h) (kf : ¬ (x ≤ 0) → JW M d P X kc ks (pc + 3) ls st h) : JW M d P X kc ks pc ls (vI x :: st) h := by
  refine JW.branch (C := x ≤ 0) (fun hu => oks_t hu) (fun p l e R s m args below meth c Qf ad H locs cells slots lr G hx hb hu hN hJ kt kf => ?_) kt kf
  show W p l e R s m args below meth c H locs cells slots Qf (F0 m pc lr ((.int (Int32.ofInt (x))) :: st.map (trv ad)))
  exact lv_if_le hx hb hd ht (fun q => kt ((ofI_le0 (oks_1 hu)).mp q)) (fun q => kf (fun z => q ((ofI_le0 (oks_1 hu)).mpr z)))
theorem JW.istore_n {n : Fin 4} {x : Int} {ls' : LV} (hd : decode M.2.1 pc = .ok (.istore_n n, 1)) (hi : n.val < M.2.2.1) (hs : aset1 ls n.val (vI x) = ls') (k : JW M d P X kc ks (pc + 1) ls' st h) : JW M d P X kc ks pc ls (vI x :: st) h := by
  intro p l e R s m args below meth c Qf G n0 a0 ad CT ST H locs cells slots lr hF hR hT hn ha hJ hS hc hv hw hu
  subst hs
  refine lv_istore_n (nL := M.2.2.1) (lv := trl ad ls) hF.1 hF.2.1 hd rfl hv hi rfl (fun lr hv => ?_)
  exact k p l e R s m args below meth c Qf G n0 a0 ad CT ST H locs cells slots lr hF hR hT hn ha hJ hS hc (aset1_has hv) (okls_aset1 hw (oks_1 hu)) (oks_t hu)
theorem JW.istore {i : Nat} {x : Int} {ls' : LV} (hd : decode M.2.1 pc = .ok (.istore i, 2)) (hi : i < M.2.2.1) (hs : aset1 ls i (vI x) = ls') (k : JW M d P X kc ks (pc + 2) ls' st h) : JW M d P X kc ks pc ls (vI x :: st) h := by
  intro p l e R s m args below meth c Qf G n0 a0 ad CT ST H locs cells slots lr hF hR hT hn ha hJ hS hc hv hw hu
  subst hs
  refine lv_istore (nL := M.2.2.1) (lv := trl ad ls) hF.1 hF.2.1 hd hv hi rfl (fun lr hv => ?_)
  exact k p l e R s m args below meth c Qf G n0 a0 ad CT ST H locs cells slots lr hF hR hT hn ha hJ hS hc (aset1_has hv) (okls_aset1 hw (oks_1 hu)) (oks_t hu)
theorem JW.lstore_n {n : Fin 4} {x : Int} {ls' : LV} (hd : decode M.2.1 pc = .ok (.lstore_n n, 1)) (hi : n.val + 1 < M.2.2.1) (hs : aset2 ls n.val (vL x) = ls') (k : JW M d P X kc ks (pc + 1) ls' st h) : JW M d P X kc ks pc ls (vL x :: st) h := by
  intro p l e R s m args below meth c Qf G n0 a0 ad CT ST H locs cells slots lr hF hR hT hn ha hJ hS hc hv hw hu
  subst hs
  refine lv_lstore_n (nL := M.2.2.1) (lv := trl ad ls) hF.1 hF.2.1 hd rfl hv hi rfl (fun lr hv => ?_)
  exact k p l e R s m args below meth c Qf G n0 a0 ad CT ST H locs cells slots lr hF hR hT hn ha hJ hS hc (aset2_has hv) (okls_aset2 hw (oks_1 hu)) (oks_t hu)
theorem JW.lstore {i : Nat} {x : Int} {ls' : LV} (hd : decode M.2.1 pc = .ok (.lstore i, 2)) (hi : i + 1 < M.2.2.1) (hs : aset2 ls i (vL x) = ls') (k : JW M d P X kc ks (pc + 2) ls' st h) : JW M d P X kc ks pc ls (vL x :: st) h := by
  intro p l e R s m args below meth c Qf G n0 a0 ad CT ST H locs cells slots lr hF hR hT hn ha hJ hS hc hv hw hu
  subst hs
  refine lv_lstore (nL := M.2.2.1) (lv := trl ad ls) hF.1 hF.2.1 hd hv hi rfl (fun lr hv => ?_)
  exact k p l e R s m args below meth c Qf G n0 a0 ad CT ST H locs cells slots lr hF hR hT hn ha hJ hS hc (aset2_has hv) (okls_aset2 hw (oks_1 hu)) (oks_t hu)
theorem JW.astore_n {n : Fin 4} {q : Nat} {ls' : LV} (hd : decode M.2.1 pc = .ok (.astore_n n, 1)) (hi : n.val < M.2.2.1) (hs : aset1 ls n.val (vR q) = ls') (k : JW M d P X kc ks (pc + 1) ls' st h) : JW M d P X kc ks pc ls (vR q :: st) h := by
  intro p l e R s m args below meth c Qf G n0 a0 ad CT ST H locs cells slots lr hF hR hT hn ha hJ hS hc hv hw hu
  subst hs
  refine lv_astore_n (nL := M.2.2.1) (lv := trl ad ls) hF.1 hF.2.1 hd rfl hv hi rfl (fun lr hv => ?_)
  exact k p l e R s m args below meth c Qf G n0 a0 ad CT ST H locs cells slots lr hF hR hT hn ha hJ hS hc (aset1_has hv) (okls_aset1 hw (oks_1 hu)) (oks_t hu)
theorem JW.astore {i : Nat} {q : Nat} {ls' : LV} (hd : decode M.2.1 pc = .ok (.astore i, 2)) (hi : i < M.2.2.1) (hs : aset1 ls i (vR q) = ls') (k : JW M d P X kc ks (pc + 2) ls' st h) : JW M d P X kc ks pc ls (vR q :: st) h := by
  intro p l e R s m args below meth c Qf G n0 a0 ad CT ST H locs cells slots lr hF hR hT hn ha hJ hS hc hv hw hu
  subst hs
  refine lv_astore (nL := M.2.2.1) (lv := trl ad ls) hF.1 hF.2.1 hd hv hi rfl (fun lr hv => ?_)
  exact k p l e R s m args below meth c Qf G n0 a0 ad CT ST H locs cells slots lr hF hR hT hn ha hJ hS hc (aset1_has hv) (okls_aset1 hw (oks_1 hu)) (oks_t hu)
theorem JW.astore_nN {n : Fin 4}  {ls' : LV} (hd : decode M.2.1 pc = .ok (.astore_n n, 1)) (hi : n.val < M.2.2.1) (hs : aset1 ls n.val (vN) = ls') (k : JW M d P X kc ks (pc + 1) ls' st h) : JW M d P X kc ks pc ls (vN :: st) h := by
  intro p l e R s m args below meth c Qf G n0 a0 ad CT ST H locs cells slots lr hF hR hT hn ha hJ hS hc hv hw hu
  subst hs
  refine lv_astore_nN (nL := M.2.2.1) (lv := trl ad ls) hF.1 hF.2.1 hd rfl hv hi rfl (fun lr hv => ?_)
  exact k p l e R s m args below meth c Qf G n0 a0 ad CT ST H locs cells slots lr hF hR hT hn ha hJ hS hc (aset1_has hv) (okls_aset1 hw (oks_1 hu)) (oks_t hu)
theorem JW.astoreN {i : Nat}  {ls' : LV} (hd : decode M.2.1 pc = .ok (.astore i, 2)) (hi : i < M.2.2.1) (hs : aset1 ls i (vN) = ls') (k : JW M d P X kc ks (pc + 2) ls' st h) : JW M d P X kc ks pc ls (vN :: st) h := by
  intro p l e R s m args below meth c Qf G n0 a0 ad CT ST H locs cells slots lr hF hR hT hn ha hJ hS hc hv hw hu
  subst hs
  refine lv_astoreN (nL := M.2.2.1) (lv := trl ad ls) hF.1 hF.2.1 hd hv hi rfl (fun lr hv => ?_)
  exact k p l e R s m args below meth c Qf G n0 a0 ad CT ST H locs cells slots lr hF hR hT hn ha hJ hS hc (aset1_has hv) (okls_aset1 hw (oks_1 hu)) (oks_t hu)
theorem JW.iinc {i : Nat} {n x : Int} {ls' : LV} (hd : decode M.2.1 pc = .ok (.iinc i n, 3)) (hi : i < M.2.2.1) (hg : alook ls i = some (vI x)) (hs : aset1 ls i (vI (i32 (x + n))) = ls') (k : JW M d P X kc ks (pc + 3) ls' st h) : JW M d P X kc ks pc ls st h := by
  intro p l e R s m args below meth c Qf G n0 a0 ad CT ST H locs cells slots lr hF hR hT hn ha hJ hS hc hv hw hu
  subst hs
  obtain ⟨j, hj⟩ := List.getElem?_of_mem (trl_mem (ad := ad) (alook_mem hg))
  refine lv_iinc (v := Int32.ofInt (i32 (x + n))) (nL := M.2.2.1) (lv := trl ad ls) (k := j) hF.1 hF.2.1 hd hv hj (by rw [i32_of, Int32.ofInt_add]) hi rfl (fun lr hv => ?_)
  exact k p l e R s m args below meth c Qf G n0 a0 ad CT ST H locs cells slots lr hF hR hT hn ha hJ hS hc (aset1_has (v := vI (i32 (x + n))) hv) (okls_aset1 hw (i32_ok _)) hu
theorem JW.goto {off : Int} {tgt : Nat} (hd : decode M.2.1 pc = .ok (.goto off, 3)) (ht : (pc : Int) + off = (tgt : Int)) (k : JW M d P X kc ks tgt ls st h) : JW M d P X kc ks pc ls st h :=
  JW.pure (fun _ hu => hu) (fun p l e R s m args below meth c Qf ad H locs cells slots lr hx hb ho hw hv hl hu k => lv_goto hx hb hd ht k) k
theorem JW.ifnull {off : Int} {tgt q : Nat} (hd : decode M.2.1 pc = .ok (.ifnull off, 3)) (k : JW M d P X kc ks (pc + 3) ls st h) : JW M d P X kc ks pc ls (vR q :: st) h :=
  JW.pure (fun _ hu => oks_t hu) (fun p l e R s m args below meth c Qf ad H locs cells slots lr hx hb ho hw hv hl hu k => lv_ifnull hx hb hd k) k
theorem JW.ifnullN {off : Int} {tgt : Nat} (hd : decode M.2.1 pc = .ok (.ifnull off, 3)) (ht : (pc : Int) + off = (tgt : Int)) (k : JW M d P X kc ks tgt ls st h) : JW M d P X kc ks pc ls (vN :: st) h :=
  JW.pure (fun _ hu => oks_t hu) (fun p l e R s m args below meth c Qf ad H locs cells slots lr hx hb ho hw hv hl hu k => lv_ifnullN hx hb hd ht k) k
theorem JW.ifnonnull {off : Int} {tgt q : Nat} (hd : decode M.2.1 pc = .ok (.ifnonnull off, 3)) (ht : (pc : Int) + off = (tgt : Int)) (k : JW M d P X kc ks tgt ls st h) : JW M d P X kc ks pc ls (vR q :: st) h :=
  JW.pure (fun _ hu => oks_t hu) (fun p l e R s m args below meth c Qf ad H locs cells slots lr hx hb ho hw hv hl hu k => lv_ifnonnull hx hb hd ht k) k
theorem JW.ifnonnullN {off : Int} (hd : decode M.2.1 pc = .ok (.ifnonnull off, 3)) (k : JW M d P X kc ks (pc + 3) ls st h) : JW M d P X kc ks pc ls (vN :: st) h :=
  JW.pure (fun _ hu => oks_t hu) (fun p l e R s m args below meth c Qf ad H locs cells slots lr hx hb ho hw hv hl hu k => lv_ifnonnullN hx hb hd k) k
theorem JW.tableIn {dflt lo hi : Int} {offs : Array Int} {len : Nat} {x off : Int} {tgt : Nat} (hd : decode M.2.1 pc = .ok (.tableswitch dflt lo hi offs, len)) (h1 : lo ≤ x) (h2 : x ≤ hi) (ho : offs[(x - lo).toNat]? = some off) (ht : (pc : Int) + off = (tgt : Int)) (k : JW M d P X kc ks tgt ls st h) : JW M d P X kc ks pc ls (vI x :: st) h :=
  JW.pure (fun _ hu => oks_t hu) (fun p l e R s m args below meth c Qf ad H locs cells slots lr hx hb hown hw hv hl hu k => by
    have e := toI_of (oks_1 hu)
    exact lv_tableIn (x := Int32.ofInt x) hx hb hd (by rw [e]; omega) (by rw [e]; omega) (by rw [e]; exact ho) ht k) k
theorem JW.tableOut {dflt lo hi : Int} {offs : Array Int} {len : Nat} {x : Int} {tgt : Nat} (hd : decode M.2.1 pc = .ok (.tableswitch dflt lo hi offs, len)) (hout : x < lo ∨ hi < x) (ht : (pc : Int) + dflt = (tgt : Int)) (k : JW M d P X kc ks tgt ls st h) : JW M d P X kc ks pc ls (vI x :: st) h :=
  JW.pure (fun _ hu => oks_t hu) (fun p l e R s m args below meth c Qf ad H locs cells slots lr hx hb hown hw hv hl hu k => by
    have e := toI_of (oks_1 hu)
    exact lv_tableOut (x := Int32.ofInt x) hx hb hd (by rw [e]; exact hout) ht k) k
/-- the answer -/
theorem JW.ret {v : Option AV} (hr : jri M.2.1 pc M.2.2.2.1 v) (hp : P v h) (he : v.toList = st) : JW M d P X kc ks pc ls st h := by
  intro p l e R s m args below meth c Qf G n0 a0 ad CT ST H locs cells slots lr hF hR hT hn ha hJ hS hc hv hw hu
  subst he
  exact hR v h ad H locs cells slots lr pc hp hn ha hJ hS (fun w hw => hu w (by rw [hw]; exact List.mem_cons_self)) (by omega) (by omega) hr
theorem JW.ireturn {x : Int} {ty : FieldType} (hd : decode M.2.1 pc = .ok (.ireturn, 1)) (hr : M.2.2.2.1 = some ty) (hn : narrow ty (.int (Int32.ofInt x)) = .int (Int32.ofInt x)) (hp : P (some (vI x)) h) : JW M d P X kc ks pc ls [vI x] h := JW.ret (v := some (vI x)) ⟨⟨ty, hr, hn⟩, hd⟩ hp rfl
theorem JW.lreturn {x : Int} (hd : decode M.2.1 pc = .ok (.lreturn, 1)) (hr : M.2.2.2.1 = some .long) (hp : P (some (vL x)) h) : JW M d P X kc ks pc ls [vL x] h := JW.ret (v := some (vL x)) ⟨hr, hd⟩ hp rfl
theorem JW.areturn {r : Option Nat} {rt : FieldType} (hd : decode M.2.1 pc = .ok (.areturn, 1)) (hr : M.2.2.2.1 = some rt) (hn : (∃ n, rt = .object n) ∨ ∃ t, rt = .array t) (hp : P (some (Sum.inr r)) h) : JW M d P X kc ks pc ls [Sum.inr r] h := JW.ret (v := some (Sum.inr r)) ⟨⟨rt, hr, hn⟩, hd⟩ hp rfl
theorem JW.vreturn (hd : decode M.2.1 pc = .ok (.return_, 1)) (hr : M.2.2.2.1 = none) (hp : P none h) : JW M d P X kc ks pc ls [] h := JW.ret (v := none) ⟨hr, hd⟩ hp rfl
end
