/-! CONTRACTS: AMet, how one is shown, what a call of it gives -/
set_option maxRecDepth 100000
theorem lv_args_eq (ad : Nat → Nat) : ∀ (as : List AV) (i : Nat), lv_args i (as.map (trv ad)) = trl ad (as.foldr (fun v k i => (i, v) :: k (i + vcat v)) (fun _ => []) i)
  | [], i => rfl
  | v :: r, i => by
    show lv_args i (trv ad v :: r.map (trv ad)) = (i, trv ad v) :: trl ad _
    unfold lv_args
    have e := trv_cat ad v
    have h2 : vcat v = 1 ∨ vcat v = 2 := by
      match v with
      | .inl (.inl x) => exact Or.inl rfl
      | .inl (.inr x) => exact Or.inr rfl
      | .inr none => exact Or.inl rfl
      | .inr (some p) => exact Or.inl rfl
    rw [e]
    rcases h2 with h2 | h2
    · rw [if_neg (by rw [h2]; decide), h2, lv_args_eq ad r (i + 1)]
    · rw [if_pos h2, h2, lv_args_eq ad r (i + 2)]
/-- the locals at a method's entry -/
def jargs : Nat → List AV → LV
  | _, [] => []
  | i, v :: r => (i, v) :: jargs (i + vcat v) r
theorem jargs_eq (as : List AV) : ∀ i, as.foldr (fun v k i => (i, v) :: k (i + vcat v)) (fun _ => []) i = jargs i as := by
  induction as with
  | nil => intro i; rfl
  | cons v r ih => intro i; show (i, v) :: _ = (i, v) :: _; rw [ih]
def jsize : List AV → Nat
  | [] => 0
  | v :: r => vcat v + jsize r
theorem lg_sl_len (ad : Nat → Nat) (as : List AV) : (lg_sl (as.map (trv ad))).length = jsize as := by
  induction as with
  | nil => rfl
  | cons v r ih =>
    have e := trv_cat ad v
    show (lg_sl (trv ad v :: r.map (trv ad))).length = vcat v + jsize r
    unfold lg_sl at ih ⊢
    rw [List.flatMap_cons, List.length_append, ih]
    have h2 : vcat v = 1 ∨ vcat v = 2 := by
      match v with
      | .inl (.inl x) => exact Or.inl rfl
      | .inl (.inr x) => exact Or.inr rfl
      | .inr none => exact Or.inl rfl
      | .inr (some p) => exact Or.inl rfl
    rcases h2 with h2 | h2
    · rw [if_neg (by rw [e, h2]; decide), h2]; rfl
    · rw [if_pos (by rw [e, h2]), h2]; rfl
theorem jargs_ok {n : Nat} {as : List AV} (h : oks n as) : ∀ i, okls n (jargs i as) := by
  induction as with
  | nil => intro i q hq; cases hq
  | cons v r ih =>
    intro i q hq
    rcases List.mem_cons.mp hq with rfl | hq
    · exact oks_1 h
    · exact ih (oks_t h) _ q hq
def JPre (G : JG) (ad : Nat → Nat) (h : AH) (U : State) : Prop := JK G U ∧ JC G U U.heap ∧ JN G ∧ gz G ≤ U.heap.size ∧ JHp G ad h U.heap
def JQ (G : JG) (h : AH) (ad : Nat → Nat) (P : Option AV → AH → Prop) : Array Value → State → Outcome → State → Prop := fun _ st o t =>
  ∃ (v : Option AV) (h' : AH) (ad' : Nat → Nat), (∀ q, q < h.1 → ad' q = ad q) ∧ h.1 ≤ h'.1 ∧ o = .returned (v.map (trv ad')) ∧ P v h' ∧ (∀ w, v = some w → okv h'.1 w) ∧ JHp G ad' h' t.heap ∧ va_F (jA G) st t
def JXc (G : JG) (h : AH) (ad : Nat → Nat) (X : Nat → Nat → AH → Prop) : String → Addr → State → State → Prop := fun E q st t =>
  ∃ (ci z : Nat) (h' : AH) (ad' : Nat → Nat), (∀ q, q < h.1 → ad' q = ad q) ∧ h.1 ≤ h'.1 ∧ X ci z h' ∧ E = jcn ci ∧ q = ad' z ∧ k0 ≤ z ∧ z < h'.1 ∧ (h'.2 z).1 = ci ∧ ci < 24 ∧ JHp G ad' h' t.heap ∧ va_F (jA G) st t
def jrm (d kc ks : Nat) : Room := { frames := d, cells := kc, slots := ks, locals := 64 * d }
/-- the method M, called with these arguments in this heap, returns with P or throws with X; it makes at most kc cells of ks slots -/
def AMet (M : MI) (d kc ks : Nat) (P : Option AV → AH → Prop) (X : Nat → Nat → AH → Prop) (args : List AV) (h : AH) : Prop :=
  ∀ (l : Launch) (G : JG) (ad : Nat → Nat), l.stackTraces = false → oks h.1 args →
    vx_Met l M.1 (jws M) (jrm d kc ks) (va_Pc (args.map (trv ad)) (JPre G ad h)) (JQ G h ad P) (JXc G h ad X) kc ks (jA G)
theorem obj_cell {G : JG} {s : State} {ad : Nat → Nat} {h : AH} {H : Heap} {q : Nat} (hK : JK G s) (hJ : JHp G ad h H) (h1 : k0 ≤ q) (h2 : q < h.1) (h3 : (h.2 q).1 < 100) :
    ∃ (r : vw_C) (ce : Cell), jcl[(h.2 q).1]? = some r ∧ H[ad q]? = some ce ∧ ce.vm = .none ∧ s.vm.findClass r.1 = some ce.cls := by
  have e := wsOf_at (G := G) (ad := ad) h1 h2
  have hat := hJ.2.2.2.1 _ _ e
  unfold toE at hat
  rw [if_pos h3] at hat
  obtain ⟨r, hr, cell, q1, q2, q3, -⟩ := hat
  exact ⟨r, cell, hr, q1, q3, by rw [q2]; exact (hK.1.1 _ _ hr).2.1⟩
theorem jcn_of {ci : Nat} {r : vw_C} (h : jcl[ci]? = some r) : jcn ci = r.1 := by unfold jcn; rw [h]
section
variable {M : MI} {d kc ks : Nat} {P : Option AV → AH → Prop} {X : Nat → Nat → AH → Prop} {as : List AV} {h : AH}
theorem jret_of {p : Program} {l : Launch} {e : Env} {R : Room} {s : State} {m : MethodId} {args : Array Value} {below : List Frame} {meth : Method} {c : Code} {G : JG} {ad : Nat → Nat} (hx : p.tables.exec = Jvm.exec) (hb : c.code = M.2.1) (hr : meth.sig.returnType = M.2.2.2.1) (hlocks : meth.locks = false) :
    JRet M P p l e R s m args below meth c (vx_MQ below (JQ G h ad P) (JXc G h ad X) args s kc ks (jA G)) G h.1 ad kc ks := by
  intro v h' ad' H locs cells slots lr pc hp hn ha hJ hS hok hc hs hri
  refine vx_ret (W.widen hc hs ?_)
  match v, hri with
  | none, hri => exact W.vret hx hb (hr.trans hri.1) (fun t ht hW => ⟨none, h', ad', ha, hn, rfl, hp, hok, by rw [ht]; exact hJ, hS.F ht⟩) hS.2.2 hri.2
  | some (.inl (.inl x)), hri =>
    obtain ⟨⟨ty, h1, h2⟩, h3⟩ := hri
    exact W.zret hx hb (hr.trans h1) h2 (fun t ht hW => ⟨_, h', ad', ha, hn, rfl, hp, hok, by rw [ht]; exact hJ, hS.F ht⟩) hS.2.2 h3
  | some (.inl (.inr x)), hri => exact W.lret hx hb (hr.trans hri.1) (fun t ht hW => ⟨_, h', ad', ha, hn, rfl, hp, hok, by rw [ht]; exact hJ, hS.F ht⟩) hS.2.2 hri.2
  | some (.inr r), hri =>
    obtain ⟨⟨rt, h1, h2⟩, h3⟩ := hri
    have hv : trv ad' (.inr r) = .null ∨ ∃ a, trv ad' (.inr r) = .ref a := by
      match r with
      | none => exact Or.inl rfl
      | some q => exact Or.inr ⟨_, rfl⟩
    exact W.aret hx hb (hr.trans h1) h2 hv (fun t ht hW => ⟨_, h', ad', ha, hn, rfl, hp, hok, by rw [ht]; exact hJ, hS.F ht⟩) hS.2.2 h3
theorem jthr_of {p : Program} {l : Launch} {e : Env} {R : Room} {s : State} {m : MethodId} {args : Array Value} {below : List Frame} {meth : Method} {c : Code} {G : JG} {ad : Nat → Nat} (hlocks : meth.locks = false) (hK : JK G s) :
    JThr M X p l e R s m args below meth c (vx_MQ below (JQ G h ad P) (JXc G h ad X) args s kc ks (jA G)) G h.1 ad kc ks := by
  intro ci q h' ad' H locs cells slots lr pc rest hx hn ha hJ hS h1 h2 h3 h4 hcov hc hs
  obtain ⟨r, ce, e1, e2, e3, e4⟩ := obj_cell hK hJ h1 h2 (by rw [h3]; omega)
  refine vx_out hcov hlocks e2 e3 e4 (fun t ht hW => ?_) hS.2.2 hc hs
  exact ⟨ci, q, h', ad', ha, hn, hx, by rw [← h3]; exact (jcn_of e1).symm, rfl, h1, h2, h3, h4, by rw [ht]; exact hJ, hS.F ht⟩
/-- a method's contract, by its body from the entry on -/
theorem AMet.of (hpl : plainName M.1.cls = true) (hhh : M.2.2.2.2 = []) (hsz : jsize as ≤ M.2.2.1) (k : JW M d P X kc ks 0 (jargs 0 as) [] h) : AMet M d kc ks P X as h := by
  intro l G ad hl hok
  refine vx_ofW (cc := M.2.1) (maxL := M.2.2.1) (ret := M.2.2.2.1) hpl (ws' := lw_all) (by unfold jws jcw; rw [if_pos hhh]) ?_
  intro p e s m args below meth c s₁ B hml ht hv
  obtain ⟨rfl, hK, hC, hN, hz, hJ⟩ := hv
  have hts := atoms_spec (ws := jws M) B.pre
  have hts : ∀ w ∈ lw_all, w.before _ s = true := fun w h => hts w (List.mem_cons_of_mem _ h)
  have hent := lv_entry (as.map (trv ad)) (n := M.2.2.1) (by rw [lg_sl_len]; exact hsz)
  rw [lv_args_eq, jargs_eq] at hent
  rw [lg_entry_eq]
  have htab : c.exceptionTable.toList = tableOf M.2.2.2.2 := by
    rw [hhh]
    cases hq : c.exceptionTable.toList with
    | nil => rfl
    | cons a b => exact (ht a (by rw [hq]; exact List.mem_cons_self)).elim
  exact k p l e _ s m _ below meth c _ G h.1 ad ad kc ks s.heap [] 0 0 _
    ⟨B.exec, B.bytes, hml, B.returns, htab, findClass_of_methodNamed B.named, hts, B.notSynchronized, (name_of_methodNamed B.named B.method).1, hK, hC, hN, hz, Nat.le_refl _, Nat.le_refl _, hl⟩
    (jret_of B.exec B.bytes B.returns B.notSynchronized) (jthr_of B.notSynchronized hK) (Nat.le_refl _) (fun _ _ => rfl) hJ va_S.rf ⟨by omega, by omega, Nat.le_refl _, Nat.le_refl _⟩ hent (jargs_ok hok 0) (oks_nil _)
/-- the same for a method with handlers -/
theorem AMet.ofH (hpl : plainName M.1.cls = true) (hhh : M.2.2.2.2 ≠ []) (hsz : jsize as ≤ M.2.2.1) (k : JW M d P X kc ks 0 (jargs 0 as) [] h) : AMet M d kc ks P X as h := by
  intro l G ad hl hok
  have hw : jws M = Cond.codeWith M.1 M.2.1 M.2.2.1 M.2.2.2.1 M.2.2.2.2 :: lw_all := by unfold jws jcw; rw [if_neg hhh]
  refine vx_ofWH (cc := M.2.1) (maxL := M.2.2.1) (ret := M.2.2.2.1) (hh := M.2.2.2.2) hpl (ws' := lw_all) hw ?_
  intro p e s m args below meth c s₁ B hml hv
  obtain ⟨rfl, hK, hC, hN, hz, hJ⟩ := hv
  have hts0 := atoms_spec (ws := jws M) B.pre
  have htab : c.exceptionTable.toList = tableOf M.2.2.2.2 := vx_table (x := M.1) B (hts0 _ (by rw [hw]; exact List.mem_cons_self))
  have hts : ∀ w ∈ lw_all, w.before _ s = true := fun w h => hts0 w (List.mem_cons_of_mem _ h)
  have hent := lv_entry (as.map (trv ad)) (n := M.2.2.1) (by rw [lg_sl_len]; exact hsz)
  rw [lv_args_eq, jargs_eq] at hent
  rw [lg_entry_eq]
  exact k p l e _ s m _ below meth c _ G h.1 ad ad kc ks s.heap [] 0 0 _
    ⟨B.exec, B.bytes, hml, B.returns, htab, findClass_of_methodNamed B.named, hts, B.notSynchronized, (name_of_methodNamed B.named B.method).1, hK, hC, hN, hz, Nat.le_refl _, Nat.le_refl _, hl⟩
    (jret_of B.exec B.bytes B.returns B.notSynchronized) (jthr_of B.notSynchronized hK) (Nat.le_refl _) (fun _ _ => rfl) hJ va_S.rf ⟨by omega, by omega, Nat.le_refl _, Nat.le_refl _⟩ hent (jargs_ok hok 0) (oks_nil _)
/-- the contract asked for less -/
theorem AMet.post {P' : Option AV → AH → Prop} {X' : Nat → Nat → AH → Prop} (h1 : ∀ v h, P' v h → P v h) (h2 : ∀ ci q h, X' ci q h → X ci q h) (k : AMet M d kc ks P' X' as h) : AMet M d kc ks P X as h := by
  intro l G ad hl hok p e ha hc hk s m args below hf happ hp ht
  obtain ⟨k9, o, g1, g2, g3, g4⟩ := k l G ad hl hok p e ha hc hk s m args below hf happ hp ht
  refine ⟨k9, o, g1, g2, g3, ?_⟩
  rcases g4 with ⟨⟨v, h', ad', r1, r2, r3, r4, r5⟩, r6⟩ | ⟨q, r0, E, ce, L, ⟨ci, z, h', ad', r1, r2, r3, r4⟩, r5⟩
  · exact Or.inl ⟨⟨v, h', ad', r1, r2, r3, h1 _ _ r4, r5⟩, r6⟩
  · exact Or.inr ⟨q, r0, E, ce, L, ⟨ci, z, h', ad', r1, r2, h2 _ _ _ r3, r4⟩, r5⟩
end
