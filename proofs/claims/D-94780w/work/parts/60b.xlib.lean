/-! methods of the library: their classes have entries, they have none -/
set_option maxRecDepth 100000
section
variable {l : Launch}
theorem vx_ofWF {y : MethodName} {ws ws' : List Cond} {rm : Room} {Pc : Array Value → State → Prop} {Qc : Array Value → State → Outcome → State → Prop} {XC : String → Addr → State → State → Prop} {mc ms : Nat} {free : Addr → Prop} {cc : ByteArray} {maxL : Nat} {ret : Option FieldType}
    (hy : plainFor y = true) (hw : ws = Cond.code y cc maxL ret :: ws')
    (body : ∀ p e s m args below meth c s₁, BodyLoose p l y (headSpec ws rm) cc maxL ret e s m args below meth c s₁ → c.maxLocals = maxL → (∀ x ∈ c.exceptionTable.toList, False) → Pc args s →
      W p l e (headSpec ws rm).room s m args below meth c s.heap [] 0 0 (vx_MQ below Qc XC args s mc ms free) (entryFrame m args maxL)) : vx_Met l y ws rm Pc Qc XC mc ms free := by
  refine MetFree.of_bodySF (code := cc) (maxLocals := maxL) (ret := ret) hy ?_ ?_
  · intro args s m h hn
    obtain ⟨meth, c, h1, h2, h3, h4, h5, h6, -, -⟩ := Cond.code_spec hn (atoms_spec (ws := ws) h _ (by rw [hw]; exact List.mem_cons_self))
    exact ⟨meth, c, h1, h2, h3, h4, h5, h6⟩
  · intro p e s m args below meth c s₁ B hml hP _
    have hh0 : s₁.heap = s.heap := by rw [B.state]; rfl
    have ht : ∀ x ∈ c.exceptionTable.toList, False := by
      obtain ⟨meth9, c9, h1, h2, -, -, -, -, h7, -⟩ := Cond.code_spec B.named (atoms_spec (ws := ws) B.pre _ (by rw [hw]; exact List.mem_cons_self))
      cases Option.some.inj (h1.symm.trans B.method)
      cases Option.some.inj (h2.symm.trans (Stand.of_body B).code)
      intro x hx
      rw [Array.isEmpty_iff.mp h7] at hx
      cases hx
    obtain ⟨t, a1, o, b1, b2, b3⟩ := body p e s m args below meth c s₁ B hml ht hP s₁ hh0 (Stand.of_body B)
    exact ⟨t, o, a1, b1, b2, b3⟩
end
section
variable {M : MI} {d kc ks : Nat} {P : Option AV → AH → Prop} {X : Nat → Nat → AH → Prop} {as : List AV} {h : AH}
theorem AMet.ofF (hpl : plainFor M.1 = true) (hhh : M.2.2.2.2 = []) (hsz : jsize as ≤ M.2.2.1) (k : JW M d P X kc ks 0 (jargs 0 as) [] h) : AMet M d kc ks P X as h := by
  intro l G ad hl hok
  refine vx_ofWF (cc := M.2.1) (maxL := M.2.2.1) (ret := M.2.2.2.1) hpl (ws' := lw_all) (by unfold jws jcw; rw [if_pos hhh]) ?_
  intro p e s m args below meth c s₁ B hml ht hv
  obtain ⟨rfl, hK, hC, hN, hz, hJ⟩ := hv
  have hts := atoms_spec (ws := jws M) B.pre
  have hts : ∀ w ∈ lw_all, w.before _ s = true := fun w h => hts w (List.mem_cons_of_mem _ h)
  have hent := lv_entry (as.map (trv ad)) (n := M.2.2.1) (by rw [lg_sl_len]; exact hsz)
  rw [lv_args_eq, jargs_eq] at hent
  rw [lg_entry_eq]
  have htab : c.exceptionTable.toList = tableOf M.2.2.2.2 := by
    rw [hhh]
    cases hq : c.exceptionTable.toList with
    | nil => rfl
    | cons a b => exact (ht a (by rw [hq]; exact List.mem_cons_self)).elim
  exact k p l e _ s m _ below meth c _ G h.1 ad ad kc ks s.heap [] 0 0 _
    ⟨B.exec, B.bytes, hml, B.returns, htab, findClass_of_methodNamed B.named, hts, B.notSynchronized, (name_of_methodNamed B.named B.method).1, hK, hC, hN, hz, Nat.le_refl _, Nat.le_refl _, hl⟩
    (jret_of B.exec B.bytes B.returns B.notSynchronized) (jthr_of B.notSynchronized hK) (Nat.le_refl _) (fun _ _ => rfl) hJ va_S.rf ⟨by omega, by omega, Nat.le_refl _, Nat.le_refl _⟩ hent (jargs_ok hok 0) (oks_nil _)
end
