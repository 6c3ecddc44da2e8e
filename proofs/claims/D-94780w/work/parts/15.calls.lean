/-! ROWS: new things, calls -/
set_option maxRecDepth 100000
def jdef (ty : FieldType) : AV := match ty with
  | .long => vL 0
  | .object _ => vN
  | .array _ => vN
  | _ => vI 0
theorem jdef_ok (n : Nat) (ty : FieldType) : okv n (jdef ty) := by
  cases ty <;> first | exact ⟨by omega, by omega⟩ | trivial
def jtyok : FieldType → Bool
  | .float => false
  | .double => false
  | _ => true
theorem jdef_val {ty : FieldType} (h : jtyok ty = true) (ad : Nat → Nat) : defaultValue ty = trv ad (jdef ty) := by
  cases ty <;> first | exact Bool.noConfusion h | rfl
/-- a new object of class number ci: its fields' types -/
def New (own : String) (idx ci N : Nat) (ty0 : Nat → FieldType) : Prop := ∃ (C : String) (T : u_T), jcl[ci]? = some (C, T, N) ∧ (∀ w ∈ u_ws C T N, w ∈ lw_all) ∧ (∀ k, k < N → parseFieldDescriptor (T k).2.2.1 = some (ty0 k)) ∧ (∀ k, k < N → jtyok (ty0 k) = true) ∧ Cond.classLink own idx C ∈ lw_all ∧ Cond.instantiable C N ∈ lw_all ∧ Cond.initialized C ∈ lw_all
def jobj (ci N : Nat) (ty0 : Nat → FieldType) : AC := (ci, N, fun k => jdef (ty0 k.toNat))
theorem jobj_ok (n ci N : Nat) (ty0 : Nat → FieldType) : okc n (jobj ci N ty0) := fun k => jdef_ok n _
section
variable {M : MI} {d : Nat} {P : Option AV → AH → Prop} {X : Nat → Nat → AH → Prop} {kc ks pc : Nat} {ls : LV} {st : List AV} {h : AH}
theorem JW.new {idx ci N : Nat} {ty0 : Nat → FieldType} {h' : AH} {kc' ks' : Nat} (hd : decode M.2.1 pc = .ok (.new idx, 3)) (hf : New M.1.cls idx ci N ty0) (hk1 : kc' + 1 ≤ kc) (hk2 : ks' + N ≤ ks) (hh : hpush h (jobj ci N ty0) = h') (kk : JW M d P X kc' ks' (pc + 3) ls (vR h.1 :: st) h') : JW M d P X kc ks pc ls st h := by
  intro p l e R s m args below meth c Qf G n0 a0 ad CT ST H locs cells slots lr hF hR hT hn ha hJ hS hc hlv hw hu
  subst hh
  have hts := hF.2.2.2.2.2.2.1
  have hz : gz G ≤ s.heap.size := hF.2.2.2.2.2.2.2.2.2.2.2.2.1
  obtain ⟨C, T, hcl, hin, hty, hto, hlk, hins, hini⟩ := hf
  refine va_new (ci := ci) (fs := (List.range N).map fun (k : Nat) => trv ad (jdef (ty0 k))) hF.1 hF.2.1 hts hin ty0 hty hF.2.2.2.2.2.1 (hts _ hlk) (hts _ hins) (hts _ hini) hF.2.2.2.2.2.2.2.2.2.1.1 hJ.2.2.2.1 hJ.2.2.2.2 hS (fun q hq => Nat.le_trans hz hq) hcl (fun j hj => ?_) (by omega) (by omega) hd (fun a H1 hP hD hS1 => ?_)
  · show _ = List.getD _ _ _
    rw [List.getD_eq_getElem?_getD, List.getElem?_map, List.getElem?_range hj]
    exact jdef_val (hto j hj) ad
  · have hE : toE (gA G) (fun z => if z = h.1 then a else ad z) (jobj ci N ty0) = .inr (ci, (List.range N).map fun (k : Nat) => trv ad (jdef (ty0 k))) := by
      rw [toE_ext (n := 0) (a := ad) (fun q hq => absurd hq (Nat.not_lt_zero _)) (jobj_ok 0 _ _ _)]
      unfold toE
      rw [if_pos (show (jobj ci N ty0).1 < 100 from Nat.lt_trans (ci_lt hcl) (by decide))]
      rfl
    have e9 : trv (fun z => if z = h.1 then a else ad z) (vR h.1) = .ref a := by show Value.ref (if h.1 = h.1 then a else ad h.1) = _; rw [if_pos rfl]
    have K := kk p l e R s m args below meth c Qf G n0 a0 (fun z => if z = h.1 then a else ad z) CT ST H1 locs (cells + 1) (slots + N) lr hF hR hT (Nat.le_succ_of_le hn) (ext_push hn ha) (hJ.push (jobj_ok _ _ _ _) hE hP hD) hS1 ⟨by omega, by omega, hc.2.2⟩ (lv_push hw hlv) (okls_mono (Nat.le_succ _) hw) (oks_cons (Nat.lt_succ_self _) (oks_mono (Nat.le_succ _) hu))
    rw [List.map_cons, e9, st_push hu] at K
    exact K
/-- Object's own constructor -/
theorem JW.objInit {idx q : Nat} (hd : decode M.2.1 pc = .ok (.invokespecial idx, 3)) (hl : Cond.methodLink M.1.cls idx Lib.objectInit ∈ lw_all) (hi : Cond.instanceMethod Lib.objectInit ∈ lw_all) (hco : Cond.code Lib.objectInit ⟨#[0xb1]⟩ 1 none ∈ lw_all) (hd1 : 1 ≤ d) (hst : jsize st ≤ 8) (kk : JW M d P X kc ks (pc + 3) ls st h) : JW M d P X kc ks pc ls (vR q :: st) h := by
  intro p l e R s m args below meth c Qf G n0 a0 ad CT ST H locs cells slots lr hF hR hT hn ha hJ hS hc hlv hw hu
  have hts := hF.2.2.2.2.2.2.1
  have K := kk p l e R s m args below meth c Qf G n0 a0 ad CT ST H locs cells slots lr hF hR hT hn ha hJ hS hc hlv hw (oks_t hu)
  have h1 := hF.2.2.2.2.2.2.2.2.2.2.2.2.2.1
  have h2 := hF.2.2.2.2.2.2.2.2.2.2.2.2.2.2.1
  refine W.objInit (g := F0 m pc lr (.ref (ad q) :: st.map (trv ad))) hF.1 hF.2.1 hF.2.2.2.2.2.1 (hts _ hl) (hts _ hi) (hts _ hco) rfl (by rw [hF.2.2.1]; exact hlv.1) rfl hd (by omega) ?_ ?_
  · rw [trs_cat]
    show 2 * 0 + jsize st + 12 ≤ R.locals
    omega
  · exact K
/-- what a call's callee may find -/
theorem jblind {G : JG} {ad : Nat → Nat} {as : List AV} : FrameBlind (va_Pc (as.map (trv ad)) (JPre G ad h)) := by
  intro a U g mk hp
  obtain ⟨h1, h2, h3, h4, h5, h6⟩ := hp
  exact ⟨h1, JK.moved (U := U.calling g mk a) (State.WarmedH.refl U) h2, JC.moved (U := U.calling g mk a) (Vm.Alike.refl U.vm) (fun _ _ _ => rfl) h3, h4, h5, h6⟩
theorem jpre_at {p : Program} {l : Launch} {R : Room} {s : State} {m : MethodId} {args : Array Value} {meth : Method} {c : Code} {G : JG} {ad : Nat → Nat} {H : Heap} {locs : List Loc} (hF : JFix M d p l R s m args meth c G) (hJ : JHp G ad h H) (hS : va_S (jA G) s.heap H locs) (as : List AV) : ∀ U : State, U.heap = H → s.WarmedH U.vm → va_Pc (as.map (trv ad)) (JPre G ad h) (as.map (trv ad)).toArray U := by
  intro U hU hW
  have hz : gz G ≤ s.heap.size := hF.2.2.2.2.2.2.2.2.2.2.2.2.1
  exact ⟨rfl, JK.moved hW hF.2.2.2.2.2.2.2.2.2.1, by rw [hU]; exact JC.moved hW.alike hS.2.1 hF.2.2.2.2.2.2.2.2.2.2.1, hF.2.2.2.2.2.2.2.2.2.2.2.1, by rw [hU]; exact Nat.le_trans hz hS.1, by rw [hU]; exact hJ⟩
/-- an object that a method is called of -/
theorem obj_recv {p : Program} {l : Launch} {R : Room} {s : State} {m : MethodId} {args : Array Value} {meth : Method} {c : Code} {G : JG} {ad : Nat → Nat} {H : Heap} {locs : List Loc} {q : Nat} {r : vw_C} (hF : JFix M d p l R s m args meth c G) (hJ : JHp G ad h H) (hS : va_S (jA G) s.heap H locs) (hq : q < h.1) (hr : jcl[(h.2 q).1]? = some r) : ∃ cell : Cell, H[ad q]? = some cell ∧ cell.vm.isStatics = false ∧ s.vm.findClass r.1 = some cell.cls := by
  by_cases hk : q < k0
  · obtain ⟨e1, e2⟩ := hJ.2.1 q hk
    have h5 := (hF.2.2.2.2.2.2.2.2.2.2.1.1 q hk).1
    rw [← e2] at h5
    have h6 := (h5 (Nat.lt_trans (ci_lt hr) (by decide)) r hr).1
    rw [← e1] at h6
    exact va_Orecv h6 hS
  · obtain ⟨r2, ce, e1, e2, e3, e4⟩ := obj_cell hF.2.2.2.2.2.2.2.2.2.1 hJ (by omega) hq (Nat.lt_trans (ci_lt hr) (by decide))
    cases hr.symm.trans e1
    exact ⟨ce, e2, by rw [e3]; rfl, e4⟩
/-- behind a call, however it was made -/
theorem JW.run {kc' ks' k1 s1 : Nat} {P' : Option AV → AH → Prop} {X' : Nat → Nat → AH → Prop} {stk : List AV} (hk : kc' + k1 ≤ kc) (hs : ks' + s1 ≤ ks)
    (hok : oks h.1 stk → oks h.1 st)
    (hrun : ∀ (p : Program) (l : Launch) (e : Env) (R : Room) (s : State) (m : MethodId) (args : Array Value) (below : List Frame) (meth : Method) (c : Code) (G : JG) (ad : Nat → Nat) (H : Heap) (locs : List Loc) (cells slots : Nat) (lr : Array Slot), JFix M d p l R s m args meth c G → JHp G ad h H → va_S (jA G) s.heap H locs → oks h.1 stk → lr.size = M.2.2.1 → cells + kc' ≤ R.cells ∧ slots + ks' ≤ R.slots →
      ∃ a, vx_Run p l e R s m args below meth c H locs cells slots kc' ks' (F0 m pc lr (stk.map (trv ad))) (st.map (trv ad)) (JQ G h ad P' a) (JXc G h ad X') (jA G))
    (kr : ∀ v h', P' v h' → h.1 ≤ h'.1 → JW M d P X k1 s1 (pc + 3) ls (v.toList ++ st) h') (kx : ∀ ci q h', X' ci q h' → h.1 ≤ h'.1 → JE M d P X k1 s1 pc ls h' ci q) : JW M d P X kc ks pc ls stk h := by
  intro p l e R s m args below meth c Qf G n0 a0 ad CT ST H locs cells slots lr hF hR hT_ hn ha hJ hS hc hlv hw hu T hT X9
  obtain ⟨a, hr9⟩ := hrun p l e R s m args below meth c G ad H locs cells slots lr hF hJ hS hu hlv.1 ⟨by omega, by omega⟩
  have hst := hok hu
  rcases hr9 T hT X9 with ⟨v, st₀, t, T', L, e0, X8, hL, e1, e2, hQ, go⟩ | ⟨q, st₀, t, T', L, E, ce, e0, X8, hL, e1, e2, hXC, hce, hcv, hcl, go⟩
  · obtain ⟨v', h', ad', r1, r2, r3, r4, r5, r6, r7⟩ := hQ
    cases r3
    have hS1 : va_S (jA G) s.heap T'.heap (locs ++ L) := (vx_keep e0 e1 hS (fun q _ h => h) (fun q h => h) hL r7).2.2
    have K := kr v' h' r4 r2 p l e R s m args below meth c Qf G n0 a0 ad' CT ST T'.heap (locs ++ L) (cells + kc') (slots + ks') lr hF hR hT_ (Nat.le_trans hn r2) (fun q hq => (r1 q (by omega)).trans (ha q hq)) (by rw [e1]; exact r6) hS1 ⟨by omega, by omega, hc.2.2⟩ (by rw [trl_ext r1 hw]; exact hlv) (okls_mono r2 hw) (oks_app (fun w hw => by cases v' with | none => cases hw | some x => rw [List.mem_singleton.mp hw]; exact r5 x rfl) (oks_mono r2 hst))
    rw [List.map_append, trs_ext r1 hst] at K
    obtain ⟨t2, a1, b1⟩ := K T' rfl X8
    refine ⟨t2, go _ ?_, b1⟩
    cases v' with
    | none => exact a1
    | some x => exact a1
  · obtain ⟨ci, z, h', ad', r1, r2, r3, r4, r5, r6, r7, r8, r9, r10, r11⟩ := hXC
    have hS1 : va_S (jA G) s.heap T'.heap (locs ++ L) := (vx_keep e0 e1 hS (fun q _ h => h) (fun q h => h) hL r11).2.2
    have K := kx ci z h' r3 r2 r6 r7 r8 r9 p l e R s m args below meth c Qf G n0 a0 ad' CT ST T'.heap (locs ++ L) (cells + kc') (slots + ks') lr (st.map (trv ad)) hF hR hT_ (Nat.le_trans hn r2) (fun q hq => (r1 q (by omega)).trans (ha q hq)) (by rw [e1]; exact r10) hS1 ⟨by omega, by omega, hc.2.2⟩ (by rw [trl_ext r1 hw]; exact hlv) (okls_mono r2 hw)
    obtain ⟨t2, a1, b1⟩ := K T' rfl X8
    rw [r5] at go
    exact ⟨t2, go.trans a1, b1⟩
/-- facts of a method that is called by its name: virtual (private too), static, a constructor -/
def notMH (y : MethodName) (n : Nat) : Prop := y.cls ≠ "java/lang/invoke/MethodHandle" ∧ y.cls ≠ "java/lang/invoke/VarHandle" ∧ (parseMethodDescriptor y.desc).map (fun d => d.parameters.length) = some n
def VOK (y : MI) (n : Nat) : Prop := y.2.2.2.2 = [] ∧ y.2.2.1 ≤ 45 ∧ notMH y.1 n ∧ Cond.instanceMethod y.1 ∈ lw_all ∧ Cond.selects y.1.cls y.1 y.1 ∈ lw_all ∧ Cond.initialized y.1.cls ∈ lw_all ∧ Cond.code y.1 y.2.1 y.2.2.1 y.2.2.2.1 ∈ lw_all
def SOK (y : MI) (n : Nat) : Prop := y.2.2.2.2 = [] ∧ y.2.2.1 ≤ 45 ∧ notMH y.1 n ∧ Cond.static y.1 ∈ lw_all ∧ Cond.initialized y.1.cls ∈ lw_all ∧ Cond.code y.1 y.2.1 y.2.2.1 y.2.2.2.1 ∈ lw_all
def IOK (y : MI) (n : Nat) : Prop := y.2.2.2.2 = [] ∧ y.2.2.1 ≤ 45 ∧ notMH y.1 n ∧ y.1.name = "<init>" ∧ y.2.2.2.1 = none ∧ Cond.instanceMethod y.1 ∈ lw_all ∧ Cond.initialized y.1.cls ∈ lw_all ∧ Cond.code y.1 y.2.1 y.2.2.1 none ∈ lw_all
theorem jws_code {y : MI} (h : y.2.2.2.2 = []) : jws y = ws_ y.1 y.2.1 y.2.2.1 y.2.2.2.1 := by unfold jws jcw; rw [if_pos h]
theorem JW.callV {y : MI} {idx b d' kc' ks' k1 s1 : Nat} {P' : Option AV → AH → Prop} {X' : Nat → Nat → AH → Prop} {As stk : List AV} (hd : decode M.2.1 pc = .ok (.invokevirtual idx, 3)) (hy : VOK y As.length) (hl : Cond.methodLink M.1.cls idx y.1 ∈ lw_all) (hm : AMet y d' kc' ks' P' X' (vR b :: As) h) (hb : jcn (h.2 b).1 = y.1.cls) (hd1 : d' + 1 ≤ d) (hk : kc' + k1 ≤ kc) (hs : ks' + s1 ≤ ks) (hstk : stk = As.reverse ++ vR b :: st) (hst : jsize st ≤ 8) (hc9 : (h.2 b).1 < 24)
    (kr : ∀ v h', P' v h' → h.1 ≤ h'.1 → JW M d P X k1 s1 (pc + 3) ls (v.toList ++ st) h') (kx : ∀ ci q h', X' ci q h' → h.1 ≤ h'.1 → JE M d P X k1 s1 pc ls h' ci q) : JW M d P X kc ks pc ls stk h := by
  subst hstk
  refine JW.run hk hs (fun hu => oks_t (oks_ar hu)) (fun p l e R s m args below meth c G ad H locs cells slots lr hF hJ hS hu hsz hc => ?_) kr kx
  obtain ⟨hy1, hy2, hy3, hy4, hy5, hy6, hy7⟩ := hy
  have hts := hF.2.2.2.2.2.2.1
  obtain ⟨r, hr⟩ : ∃ r, jcl[(h.2 b).1]? = some r := ⟨_, List.getElem?_eq_getElem hc9⟩
  have hrc := obj_recv hF hJ hS (oks_1 (oks_ar hu)) hr
  rw [← jcn_of hr, hb] at hrc
  have h1 := hF.2.2.2.2.2.2.2.2.2.2.2.2.2.1
  have h2 := hF.2.2.2.2.2.2.2.2.2.2.2.2.2.2.1
  have hM := hm l G ad hF.2.2.2.2.2.2.2.2.2.2.2.2.2.2.2 (oks_cons (oks_1 (oks_ar hu)) (oks_rev (oks_al hu)))
  rw [jws_code hy1] at hM
  exact ⟨_, vx_runV (As := As.map (trv ad)) (b := ad b) (n := As.length) ⟨hF.1, hF.2.1, hF.2.2.1, hF.2.2.2.2.2.1, hts⟩ hM (cwV As.length hts (lw_V hl hy4 hy5 hy6 hy7) rfl rfl rfl ⟨rfl, hy3⟩ ⟨by show d' + 1 ≤ R.frames; omega, by show 8 + (y.2.2.1 + 11) + 64 * d' ≤ R.locals; omega⟩) ⟨jblind, hrc, jpre_at hF hJ hS (vR b :: As)⟩ rfl (List.length_map ..) hsz (by rw [List.map_append, List.map_reverse]; rfl) (by rw [trs_cat]; show 2 * 0 + jsize st ≤ 8; omega) hd hc⟩
theorem JW.callS {y : MI} {idx d' kc' ks' k1 s1 : Nat} {P' : Option AV → AH → Prop} {X' : Nat → Nat → AH → Prop} {As stk : List AV} (hd : decode M.2.1 pc = .ok (.invokestatic idx, 3)) (hy : SOK y As.length) (hl : Cond.methodLink M.1.cls idx y.1 ∈ lw_all) (hm : AMet y d' kc' ks' P' X' As h) (hd1 : d' + 1 ≤ d) (hk : kc' + k1 ≤ kc) (hs : ks' + s1 ≤ ks) (hstk : stk = As.reverse ++ st) (hst : jsize st ≤ 8)
    (kr : ∀ v h', P' v h' → h.1 ≤ h'.1 → JW M d P X k1 s1 (pc + 3) ls (v.toList ++ st) h') (kx : ∀ ci q h', X' ci q h' → h.1 ≤ h'.1 → JE M d P X k1 s1 pc ls h' ci q) : JW M d P X kc ks pc ls stk h := by
  subst hstk
  refine JW.run hk hs (fun hu => oks_ar hu) (fun p l e R s m args below meth c G ad H locs cells slots lr hF hJ hS hu hsz hc => ?_) kr kx
  obtain ⟨hy1, hy2, hy3, hy4, hy5, hy6⟩ := hy
  have hts := hF.2.2.2.2.2.2.1
  have h1 := hF.2.2.2.2.2.2.2.2.2.2.2.2.2.1
  have h2 := hF.2.2.2.2.2.2.2.2.2.2.2.2.2.2.1
  have hM := hm l G ad hF.2.2.2.2.2.2.2.2.2.2.2.2.2.2.2 (oks_rev (oks_al hu))
  rw [jws_code hy1] at hM
  exact ⟨_, vx_runS (As := As.map (trv ad)) (n := As.length) ⟨hF.1, hF.2.1, hF.2.2.1, hF.2.2.2.2.2.1, hts⟩ hM (va_cwS As.length hts (lw_S hl hy4 hy5 hy6) rfl rfl rfl hy3 ⟨by show d' + 1 ≤ R.frames; omega, by show 8 + (y.2.2.1 + 11) + 64 * d' ≤ R.locals; omega⟩) ⟨jblind, jpre_at hF hJ hS As⟩ rfl (List.length_map ..) hsz (by rw [List.map_append, List.map_reverse]) (by rw [trs_cat]; show 2 * 0 + jsize st ≤ 8; omega) hd hc⟩
theorem JW.callI {y : MI} {idx b d' kc' ks' k1 s1 : Nat} {P' : Option AV → AH → Prop} {X' : Nat → Nat → AH → Prop} {As stk : List AV} (hd : decode M.2.1 pc = .ok (.invokespecial idx, 3)) (hy : IOK y As.length) (hl : Cond.methodLink M.1.cls idx y.1 ∈ lw_all) (hm : AMet y d' kc' ks' P' X' (vR b :: As) h) (hd1 : d' + 1 ≤ d) (hk : kc' + k1 ≤ kc) (hs : ks' + s1 ≤ ks) (hstk : stk = As.reverse ++ vR b :: st) (hst : jsize st ≤ 8)
    (kr : ∀ v h', P' v h' → h.1 ≤ h'.1 → JW M d P X k1 s1 (pc + 3) ls (v.toList ++ st) h') (kx : ∀ ci q h', X' ci q h' → h.1 ≤ h'.1 → JE M d P X k1 s1 pc ls h' ci q) : JW M d P X kc ks pc ls stk h := by
  subst hstk
  refine JW.run hk hs (fun hu => oks_t (oks_ar hu)) (fun p l e R s m args below meth c G ad H locs cells slots lr hF hJ hS hu hsz hc => ?_) kr kx
  obtain ⟨hy1, hy2, hy3, hy4, hy5, hy6, hy7, hy8⟩ := hy
  have hts := hF.2.2.2.2.2.2.1
  have h1 := hF.2.2.2.2.2.2.2.2.2.2.2.2.2.1
  have h2 := hF.2.2.2.2.2.2.2.2.2.2.2.2.2.2.1
  have hM := hm l G ad hF.2.2.2.2.2.2.2.2.2.2.2.2.2.2.2 (oks_cons (oks_1 (oks_ar hu)) (oks_rev (oks_al hu)))
  rw [jws_code hy1, hy5] at hM
  exact ⟨_, vx_runI (As := As.map (trv ad)) (b := ad b) (n := As.length) ⟨hF.1, hF.2.1, hF.2.2.1, hF.2.2.2.2.2.1, hts⟩ hM (cwI As.length hts (lw_meth hy8) rfl rfl rfl (hts _ hy7) (hts _ hl) (hts _ hy6) hy4 hy3 ⟨by show d' + 1 ≤ R.frames; omega, by show 8 + (y.2.2.1 + 11) + 64 * d' ≤ R.locals; omega⟩) ⟨jblind, jpre_at hF hJ hS (vR b :: As)⟩ rfl (List.length_map ..) hsz (by rw [List.map_append, List.map_reverse]; rfl) (by rw [trs_cat]; show 2 * 0 + jsize st ≤ 8; omega) hd hc⟩
end
