/-! ROWS: calls of what is chosen by the receiver, of nest mates' own, of a superclass's -/
set_option maxRecDepth 100000
theorem lw_U {own C owner : String} {idx : Nat} {x y : MethodName} {b : ByteArray} {L : Nat} {r : Option FieldType} (h1 : Cond.methodLink own idx x ∈ lw_all) (h2 : Cond.sameMethod x.cls owner x.name x.desc ∈ lw_all) (h3 : Cond.selects C x y ∈ lw_all) (h4 : Cond.instanceMethod y ∈ lw_all) (h5 : Cond.initialized y.cls ∈ lw_all) (h6 : Cond.code y b L r ∈ lw_all) : GoodIn lw_all (va_wsU own idx C owner x y (ws_ y b L r)) := by
  refine lw_app ?_ (lw_meth h6)
  intro w hw
  simp only [List.mem_cons, List.not_mem_nil, or_false] at hw
  rcases hw with e | e | e | e | e
  · rw [e]; exact h1
  · rw [e]; exact h2
  · rw [e]; exact h3
  · rw [e]; exact h4
  · rw [e]; exact h5
theorem lw_SU {own : String} {idx : Nat} {y : MethodName} {b : ByteArray} {L : Nat} {r : Option FieldType} (h1 : Cond.methodLink own idx y ∈ lw_all) (h2 : Cond.sameMethod y.cls y.cls y.name y.desc ∈ lw_all) (h3 : Cond.superclass own y.cls ∈ lw_all) (h4 : Cond.instanceMethod y ∈ lw_all) (h5 : Cond.initialized y.cls ∈ lw_all) (h6 : Cond.code y b L r ∈ lw_all) : GoodIn lw_all (va_wsSU own idx y (ws_ y b L r)) := by
  refine lw_app ?_ (lw_meth h6)
  intro w hw
  simp only [List.mem_cons, List.not_mem_nil, or_false] at hw
  rcases hw with e | e | e | e | e
  · rw [e]; exact h1
  · rw [e]; exact h2
  · rw [e]; exact h3
  · rw [e]; exact h4
  · rw [e]; exact h5
/-- facts of a method that is chosen by the receiver's class -/
def UOK (y : MI) (x : MethodName) (C : String) (n : Nat) : Prop := y.2.2.2.2 = [] ∧ y.2.2.1 ≤ 45 ∧ notMH x n ∧ Cond.sameMethod x.cls x.cls x.name x.desc ∈ lw_all ∧ Cond.selects C x y.1 ∈ lw_all ∧ Cond.instanceMethod y.1 ∈ lw_all ∧ Cond.initialized y.1.cls ∈ lw_all ∧ Cond.code y.1 y.2.1 y.2.2.1 y.2.2.2.1 ∈ lw_all ∧ Cond.declares ⟨x.cls, x.name, x.desc⟩ ∈ lw_tbl
section
variable {M : MI} {d : Nat} {P : Option AV → AH → Prop} {X : Nat → Nat → AH → Prop} {kc ks pc : Nat} {ls : LV} {st : List AV} {h : AH}
theorem JW.callA {y : MI} {x : MethodName} {C : String} {idx b d' kc' ks' k1 s1 : Nat} {P' : Option AV → AH → Prop} {X' : Nat → Nat → AH → Prop} {As stk : List AV} (hd : decode M.2.1 pc = .ok (.invokevirtual idx, 3)) (hy : UOK y x C As.length) (hl : Cond.methodLink M.1.cls idx x ∈ lw_all) (hm : AMet y d' kc' ks' P' X' (vR b :: As) h) (hb : jcn (h.2 b).1 = C) (hd1 : d' + 1 ≤ d) (hk : kc' + k1 ≤ kc) (hs : ks' + s1 ≤ ks) (hstk : stk = As.reverse ++ vR b :: st) (hst : jsize st ≤ 8) (hc9 : (h.2 b).1 < 24)
    (kr : ∀ v h', P' v h' → h.1 ≤ h'.1 → JW M d P X k1 s1 (pc + 3) ls (v.toList ++ st) h') (kx : ∀ ci q h', X' ci q h' → h.1 ≤ h'.1 → JE M d P X k1 s1 pc ls h' ci q) : JW M d P X kc ks pc ls stk h := by
  subst hstk
  refine JW.run hk hs (fun hu => oks_t (oks_ar hu)) (fun p l e R s m args below meth c G ad H locs cells slots lr hF hJ hS hu hsz hc => ?_) kr kx
  obtain ⟨hy1, hy2, hy3, hy4, hy5, hy6, hy7, hy8, hy9⟩ := hy
  have hts := hF.2.2.2.2.2.2.1
  obtain ⟨r, hr⟩ : ∃ r, jcl[(h.2 b).1]? = some r := ⟨_, List.getElem?_eq_getElem hc9⟩
  have hrc := obj_recv hF hJ hS (oks_1 (oks_ar hu)) hr
  rw [← jcn_of hr, hb] at hrc
  have h1 := hF.2.2.2.2.2.2.2.2.2.2.2.2.2.1
  have h2 := hF.2.2.2.2.2.2.2.2.2.2.2.2.2.2.1
  have hK : JK G s := hF.2.2.2.2.2.2.2.2.2.1
  have hM := hm l G ad hF.2.2.2.2.2.2.2.2.2.2.2.2.2.2.2 (oks_cons (oks_1 (oks_ar hu)) (oks_rev (oks_al hu)))
  rw [jws_code hy1] at hM
  exact ⟨_, vx_runU (As := As.map (trv ad)) (b := ad b) (n := As.length) ⟨hF.1, hF.2.1, hF.2.2.1, hF.2.2.2.2.2.1, hts⟩ hM (va_cwA As.length hts (lw_U hl hy4 hy5 hy6 hy7 hy8) rfl rfl rfl (hK.2.1 _ hy9 rfl) hy3 ⟨by show d' + 1 ≤ R.frames; omega, by show 8 + (y.2.2.1 + 11) + 64 * d' ≤ R.locals; omega⟩) ⟨jblind, hrc, jpre_at hF hJ hS (vR b :: As)⟩ rfl (List.length_map ..) hsz (by rw [List.map_append, List.map_reverse]; rfl) (by rw [trs_cat]; show 2 * 0 + jsize st ≤ 8; omega) hd hc⟩
/-- a nest mate's own method -/
theorem JW.callVN {y : MI} {host : String} {idx b d' kc' ks' k1 s1 : Nat} {P' : Option AV → AH → Prop} {X' : Nat → Nat → AH → Prop} {As stk : List AV} (hd : decode M.2.1 pc = .ok (.invokevirtual idx, 3)) (hy : VOK y As.length) (hl : Cond.methodLinkNest M.1.cls idx y.1 host ∈ lw_tbl) (hm : AMet y d' kc' ks' P' X' (vR b :: As) h) (hb : jcn (h.2 b).1 = y.1.cls) (hd1 : d' + 1 ≤ d) (hk : kc' + k1 ≤ kc) (hs : ks' + s1 ≤ ks) (hstk : stk = As.reverse ++ vR b :: st) (hst : jsize st ≤ 8) (hc9 : (h.2 b).1 < 24)
    (kr : ∀ v h', P' v h' → h.1 ≤ h'.1 → JW M d P X k1 s1 (pc + 3) ls (v.toList ++ st) h') (kx : ∀ ci q h', X' ci q h' → h.1 ≤ h'.1 → JE M d P X k1 s1 pc ls h' ci q) : JW M d P X kc ks pc ls stk h := by
  subst hstk
  refine JW.run hk hs (fun hu => oks_t (oks_ar hu)) (fun p l e R s m args below meth c G ad H locs cells slots lr hF hJ hS hu hsz hc => ?_) kr kx
  obtain ⟨hy1, hy2, hy3, hy4, hy5, hy6, hy7⟩ := hy
  have hts := hF.2.2.2.2.2.2.1
  obtain ⟨r, hr⟩ : ∃ r, jcl[(h.2 b).1]? = some r := ⟨_, List.getElem?_eq_getElem hc9⟩
  have hrc := obj_recv hF hJ hS (oks_1 (oks_ar hu)) hr
  rw [← jcn_of hr, hb] at hrc
  have h1 := hF.2.2.2.2.2.2.2.2.2.2.2.2.2.1
  have h2 := hF.2.2.2.2.2.2.2.2.2.2.2.2.2.2.1
  have hK : JK G s := hF.2.2.2.2.2.2.2.2.2.1
  have hM := hm l G ad hF.2.2.2.2.2.2.2.2.2.2.2.2.2.2.2 (oks_cons (oks_1 (oks_ar hu)) (oks_rev (oks_al hu)))
  rw [jws_code hy1] at hM
  exact ⟨_, vx_runVN (As := As.map (trv ad)) (b := ad b) (n := As.length) ⟨hF.1, hF.2.1, hF.2.2.1, hF.2.2.2.2.2.1, hts⟩ hM ⟨va_cnB As.length hts (lw_meth hy7) rfl rfl rfl (hK.2.1 _ hl rfl) (hts _ hy6) hy3 ⟨by show d' + 1 ≤ R.frames; omega, by show 8 + (y.2.2.1 + 11) + 64 * d' ≤ R.locals; omega⟩, hts _ hy4, hts _ hy5⟩ ⟨jblind, hrc, jpre_at hF hJ hS (vR b :: As)⟩ rfl (List.length_map ..) hsz (by rw [List.map_append, List.map_reverse]; rfl) (by rw [trs_cat]; show 2 * 0 + jsize st ≤ 8; omega) hd hc⟩
end
/-- facts of a superclass's method that is called as such -/
def SUOK (own : String) (y : MI) (n : Nat) : Prop := y.2.2.2.2 = [] ∧ y.2.2.1 ≤ 45 ∧ (y.1.name ≠ "<init>" ∧ (parseMethodDescriptor y.1.desc).map (fun d => d.parameters.length) = some n) ∧ Cond.sameMethod y.1.cls y.1.cls y.1.name y.1.desc ∈ lw_all ∧ Cond.superclass own y.1.cls ∈ lw_all ∧ Cond.instanceMethod y.1 ∈ lw_all ∧ Cond.initialized y.1.cls ∈ lw_all ∧ Cond.code y.1 y.2.1 y.2.2.1 y.2.2.2.1 ∈ lw_all
section
variable {M : MI} {d : Nat} {P : Option AV → AH → Prop} {X : Nat → Nat → AH → Prop} {kc ks pc : Nat} {ls : LV} {st : List AV} {h : AH}
theorem JW.callSU {y : MI} {idx b d' kc' ks' k1 s1 : Nat} {P' : Option AV → AH → Prop} {X' : Nat → Nat → AH → Prop} {As stk : List AV} (hd : decode M.2.1 pc = .ok (.invokespecial idx, 3)) (hy : SUOK M.1.cls y As.length) (hl : Cond.methodLink M.1.cls idx y.1 ∈ lw_all) (hm : AMet y d' kc' ks' P' X' (vR b :: As) h) (hd1 : d' + 1 ≤ d) (hk : kc' + k1 ≤ kc) (hs : ks' + s1 ≤ ks) (hstk : stk = As.reverse ++ vR b :: st) (hst : jsize st ≤ 8) (hc9 : (h.2 b).1 < 24)
    (kr : ∀ v h', P' v h' → h.1 ≤ h'.1 → JW M d P X k1 s1 (pc + 3) ls (v.toList ++ st) h') (kx : ∀ ci q h', X' ci q h' → h.1 ≤ h'.1 → JE M d P X k1 s1 pc ls h' ci q) : JW M d P X kc ks pc ls stk h := by
  subst hstk
  refine JW.run hk hs (fun hu => oks_t (oks_ar hu)) (fun p l e R s m args below meth c G ad H locs cells slots lr hF hJ hS hu hsz hc => ?_) kr kx
  obtain ⟨hy1, hy2, hy3, hy4, hy5, hy6, hy7, hy8⟩ := hy
  have hts := hF.2.2.2.2.2.2.1
  obtain ⟨r, hr⟩ : ∃ r, jcl[(h.2 b).1]? = some r := ⟨_, List.getElem?_eq_getElem hc9⟩
  have hrc := obj_recv hF hJ hS (oks_1 (oks_ar hu)) hr
  have h1 := hF.2.2.2.2.2.2.2.2.2.2.2.2.2.1
  have h2 := hF.2.2.2.2.2.2.2.2.2.2.2.2.2.2.1
  have hK : JK G s := hF.2.2.2.2.2.2.2.2.2.1
  have hM := hm l G ad hF.2.2.2.2.2.2.2.2.2.2.2.2.2.2.2 (oks_cons (oks_1 (oks_ar hu)) (oks_rev (oks_al hu)))
  rw [jws_code hy1] at hM
  exact ⟨_, vx_runSU (hK.1.1 _ _ hr).2 (As := As.map (trv ad)) (b := ad b) (n := As.length) ⟨hF.1, hF.2.1, hF.2.2.1, hF.2.2.2.2.2.1, hts⟩ hM (va_cwSU As.length hts (lw_SU hl hy4 hy5 hy6 hy7 hy8) rfl rfl rfl hy3 ⟨by show d' + 1 ≤ R.frames; omega, by show 8 + (y.2.2.1 + 11) + 64 * d' ≤ R.locals; omega⟩) ⟨jblind, hrc, jpre_at hF hJ hS (vR b :: As)⟩ rfl (List.length_map ..) hsz (by rw [List.map_append, List.map_reverse]; rfl) (by rw [trs_cat]; show 2 * 0 + jsize st ≤ 8; omega) hd hc⟩
end
