/-! THE JUDGEMENT: abstract heaps, what is known of classes and constants, JW -/
set_option maxRecDepth 100000
/-- classes by number -/
def jcl : List vw_C := [(RX0, TX0, 26), (RX3, TX3, 35), (RX1, TX1, 9), (RJ2, TJ2, 3), (RX2, TX2, 1), (RX4, TX4, 7), (RX5, TX5, 8), (RX18, TX18, 1), (RJ13, TJ13, 1), (RJ4, TJ4, 2), (RX8, TX8, 5), (RX9, TX9, 6), (RX10, TX10, 5), (RX11, TX11, 4), (RX12, TX12, 4), (RX13, TX13, 5), (RX14, TX14, 4), (RX15, TX15, 5), (RX16, TX16, 4), (RX17, TX17, 5), (RJ16, TJ16, 8), (RJ17, TJ17, 6), (RJ19, TJ19, 6), (RJ20, TJ20, 6)]
/-- array types by number; a cell's tag is 100 + that -/
def jat : Nat → FieldType
  | 0 => .int
  | 1 => .byte
  | 2 => .boolean
  | 3 => .short
  | 4 => .long
  | 5 => .object "java/lang/Object"
  | 6 => .object "UpAndDown$Word"
  | 7 => .object "java/lang/String"
  | 8 => .object "UpAndDown$Slot"
  | 9 => .object "UpAndDown$Table"
  | _ => .object "java/lang/Integer"
/-- a cell: its tag, how many places, what they hold -/
abbrev AC : Type := Nat × Nat × (Int → AV)
/-- a heap: how many cells, the cells -/
abbrev AH : Type := Nat × (Nat → AC)
def okc (n : Nat) (c : AC) : Prop := ∀ k : Int, okv n (c.2.2 k)
def okh (h : AH) : Prop := ∀ q, q < h.1 → okc h.1 (h.2 q)
def kI (v : AV) : Int32 := match v with
  | .inl (.inl x) => Int32.ofInt x
  | _ => 0
def kL (v : AV) : Int64 := match v with
  | .inl (.inr x) => Int64.ofInt x
  | _ => 0
def kR (ad : Nat → Nat) (v : AV) : Option Nat := match v with
  | .inr (some p) => some (ad p)
  | _ => none
def toA (ad : Nat → Nat) (t : Nat) (f : Int → AV) : (Nat → Int32) ⊕ (Nat → Int64) ⊕ (Nat → UInt32) ⊕ (Nat → UInt64) ⊕ (Nat → Option Nat) :=
  if t < 104 then .inl (fun j => kI (f j)) else if t = 104 then .inr (.inl fun j => kL (f j)) else .inr (.inr (.inr (.inr fun j => kR ad (f j))))
def toE (dA : Nat → ClassId) (ad : Nat → Nat) (c : AC) : va_E :=
  if c.1 < 100 then .inr (c.1, (List.range c.2.1).map fun (k : Nat) => trv ad (c.2.2 k)) else .inl (dA (c.1 - 100), c.2.1, toA ad c.1 c.2.2)
/-- what stays through a run: class numbers, arrays' class numbers, the first new address, the constants' addresses, their cells, the statics' values -/
abbrev JG : Type := va_G × (Nat → ClassId) × Nat × (Nat → Nat) × (Nat → AC) × (Nat → AV)
abbrev gD (G : JG) : va_G := G.1
abbrev gA (G : JG) : Nat → ClassId := G.2.1
abbrev gz (G : JG) : Nat := G.2.2.1
abbrev ga (G : JG) : Nat → Nat := G.2.2.2.1
abbrev gk (G : JG) : Nat → AC := G.2.2.2.2.1
abbrev gs (G : JG) : Nat → AV := G.2.2.2.2.2
/-- the constants have the places below k0 -/
def k0 : Nat := 320
def wsOf (G : JG) (ad : Nat → Nat) (h : AH) : va_W := (List.range (h.1 - k0)).map fun j => (ad (k0 + j), toE (gA G) ad (h.2 (k0 + j)))
theorem wsOf_at {G : JG} {ad : Nat → Nat} {h : AH} {q : Nat} (h1 : k0 ≤ q) (h2 : q < h.1) : (wsOf G ad h)[q - k0]? = some (ad q, toE (gA G) ad (h.2 q)) := by
  unfold wsOf
  rw [List.getElem?_map, List.getElem?_range (by omega)]
  show some (ad (k0 + (q - k0)), toE (gA G) ad (h.2 (k0 + (q - k0)))) = _
  rw [show k0 + (q - k0) = q by omega]
theorem wsOf_inv {G : JG} {ad : Nat → Nat} {h : AH} {j : Nat} {x : Nat × va_E} (hx : (wsOf G ad h)[j]? = some x) : k0 + j < h.1 ∧ x = (ad (k0 + j), toE (gA G) ad (h.2 (k0 + j))) := by
  have hj : j < (wsOf G ad h).length := (List.getElem?_eq_some_iff.mp hx).1
  unfold wsOf at hj
  rw [List.length_map, List.length_range] at hj
  have e := wsOf_at (G := G) (ad := ad) (h := h) (q := k0 + j) (by omega) (by omega)
  rw [show k0 + j - k0 = j by omega, hx] at e
  exact ⟨by omega, Option.some.inj e⟩
def jtys (G : JG) : List (ClassId × FieldType) := (List.range 10).map fun i => (gA G i, jat i)
theorem jtys_at {G : JG} {i : Nat} (h : i < 10) : (jtys G)[i]? = some (gA G i, jat i) := by
  unfold jtys
  rw [List.getElem?_map, List.getElem?_range h]
  rfl
/-- words of the tables that don't ride in the lists: a nest mate's links, castable, declares -/
def jnw : Cond → Bool
  | .fieldLinkNest .. => true
  | .methodLinkNest .. => true
  | .castable .. => true
  | .declares _ => true
  | _ => false
theorem jnw_warm {w : Cond} (h : jnw w = true) {s U : State} (hW : s.WarmedH U.vm) (hZ : va_Nw w s) : va_Nw w U := by
  cases w <;> first | exact va_Nw.warmF hW hZ | exact va_Nw.warmM hW hZ | exact va_Nw.warmC hW hZ | exact va_Nw.warmD hW hZ | exact Bool.noConfusion h
def jao : List String := ["java/lang/Object", "UpAndDown$Word", "java/lang/String", "UpAndDown$Slot", "UpAndDown$Table"]
/-- pairs that are not castable -/
def jnc : List (String × String) := [("[S", "[B"), ("[I", "[B"), ("[I", "[S"), ("[J", "[B"), ("[J", "[S"), ("[J", "[I"), ("java/lang/ArrayIndexOutOfBoundsException", "java/lang/NullPointerException"), ("java/lang/ArrayStoreException", "java/lang/NullPointerException"), ("java/lang/ArrayIndexOutOfBoundsException", "java/lang/ArrayStoreException")]
/-- the text constants: class, entry, text; the k-th has place 1 + k, its bytes 23 + k -/
def jstr : List (String × Nat × String) := [("UpAndDown", 79, "down"), ("UpAndDown", 81, "up"), ("UpAndDown", 83, "turn"), ("UpAndDown", 85, "keep"), ("UpAndDown", 87, "back"), ("UpAndDown", 89, "less"), ("UpAndDown", 91, "add"), ("UpAndDown", 93, "square"), ("UpAndDown", 95, "cube"), ("UpAndDown", 97, "sum"), ("UpAndDown", 99, "half"), ("UpAndDown", 101, "first"), ("UpAndDown", 103, "times"), ("UpAndDown", 105, "plus"), ("UpAndDown", 107, "out"), ("UpAndDown$Reader", 114, "table"), ("UpAndDown$Reader", 115, "base"), ("UpAndDown$Reader", 123, "long"), ("UpAndDown$Reader", 167, "doing"), ("UpAndDown$Reader", 173, "slip"), ("UpAndDown$Reader", 159, "for"), ("UpAndDown$Reader", 177, "number")]
/-- the statics: class, name, descriptor -/
def jst : List (String × String × String) := [("UpAndDown$Token", "END", "LUpAndDown$Token;"), ("UpAndDown$Token", "WORD", "LUpAndDown$Token;"), ("UpAndDown$Token", "NUMBER", "LUpAndDown$Token;"), ("UpAndDown$Token", "STOP", "LUpAndDown$Token;"), ("UpAndDown$Token", "NONE", "LUpAndDown$Token;"), ("java/lang/Integer$IntegerCache", "cache", "[Ljava/lang/Integer;"), ("java/lang/String", "COMPACT_STRINGS", "Z"), ("java/lang/Integer$IntegerCache", "high", "I"), ("java/util/ArrayList", "EMPTY_ELEMENTDATA", "[Ljava/lang/Object;"), ("jdk/internal/util/Preconditions", "SIOOBE_FORMATTER", "Ljava/util/function/BiFunction;"), ("java/lang/Throwable", "UNASSIGNED_STACK", "[Ljava/lang/StackTraceElement;"), ("java/lang/Throwable", "SUPPRESSED_SENTINEL", "Ljava/util/List;")]
/-- what they hold: tokens have the places 45.., the Integers' row 50 -/
def jsv (G : JG) : Nat → AV
  | 0 => vR 45
  | 1 => vR 46
  | 2 => vR 47
  | 3 => vR 48
  | 4 => vR 49
  | 5 => vR 50
  | 6 => vI 1
  | 7 => vI 127
  | i => gs G i
abbrev jA (G : JG) : Nat → Prop := fun q => gz G ≤ q
/-- a constant's cell: tag 98 nothing is said, a class's number, an array -/
def jkf (G : JG) (c : AC) (a : Nat) (s : State) (H : Heap) : Prop :=
  (c.1 < 98 → ∀ r, jcl[c.1]? = some r → va_O r.1 a (jA G) s H ∧ ∀ k : Nat, k < c.2.1 → k < r.2.2 ∧ va_OF (r.2.1 k).1 (r.2.1 k).2.1 (r.2.1 k).2.2.1 (trv (ga G) (c.2.2 k)) a (jA G) s H) ∧
  (100 ≤ c.1 → va_T (jat (c.1 - 100)) a c.2.1 (fun j => trv (ga G) (c.2.2 j)) (jA G) s H)
/-- what the tables and the machine know, at any state of the run -/
def JK (G : JG) (s : State) : Prop :=
  va_K (gD G) jcl (jtys G) s ∧ (∀ w ∈ lw_tbl, jnw w = true → va_Nw w s) ∧ (∀ C ∈ jao, va_AO C s) ∧ (∀ q ∈ jnc, va_Nc q.1 q.2 s) ∧
  (∀ (k : Nat) (q : String × Nat × String), jstr[k]? = some q → vk_R q.1 q.2.1 q.2.2 (ga G (1 + k)) s) ∧ va_Mi "[Ljava/lang/Object;" (ga G 307) s ∧ va_Dc s ∧
  va_Fw "java/util/ArrayList" ⟨"java/util/Collection", "toArray", "()[Ljava/lang/Object;"⟩ ⟨"java/util/ArrayList", "toArray", "()[Ljava/lang/Object;"⟩ s
/-- what the constants are, in a heap -/
def JC (G : JG) (s : State) (H : Heap) : Prop :=
  (∀ q, q < k0 → jkf G (gk G q) (ga G q) s H) ∧
  (∀ (i : Nat) (x : String × String × String), jst[i]? = some x → va_Z x.1 x.2.1 x.2.2 (trv (ga G) (jsv G i)) (jA G) s H) ∧
  vx_Zq Bundle.tN "UNASSIGNED_STACK" Bundle.steD (jA G) s H ∧ vx_Zq Bundle.tN "SUPPRESSED_SENTINEL" Bundle.listD (jA G) s H
/-- what is said of the constants' numbers alone -/
def JN (G : JG) : Prop :=
  (∀ i j, 45 ≤ i → i < 50 → 45 ≤ j → j < 50 → ga G i = ga G j → i = j) ∧ (∀ i, i < 50 → ga G i < gz G) ∧ (∀ i, gs G i = vN ∨ ∃ q, q < k0 ∧ gs G i = vR q) ∧ ∀ q, q < k0 → okc k0 (gk G q)
/-- a heap of the machine holds an abstract one -/
def JHp (G : JG) (ad : Nat → Nat) (h : AH) (H : Heap) : Prop :=
  k0 ≤ h.1 ∧ (∀ q, q < k0 → ad q = ga G q ∧ h.2 q = gk G q) ∧ okh h ∧ va_P (gD G) jcl (wsOf G ad h) H ∧ va_D (jA G) (wsOf G ad h)
theorem JK.moved {G : JG} {s U : State} (hW : s.WarmedH U.vm) (h : JK G s) : JK G U := by
  obtain ⟨h1, h2, h3, h4, h5, h6, h7, h8⟩ := h
  exact ⟨va_K.moved hW.alike h1, fun w hw hj => jnw_warm hj hW (h2 w hw hj), fun C hC => va_AO.moved hW.alike (h3 C hC), fun q hq => va_Nc.moved hW.alike (h4 q hq), fun k q hq => vk_R.warm hW (h5 k q hq), va_Mi.moved hW.alike h6, va_Dc.moved hW.alike h7, va_Fw.moved (by decide +kernel) hW.alike h8⟩
theorem jkf.moved {G : JG} {c : AC} {a : Nat} {s U : State} {H H1 : Heap} (hvm : s.vm.Alike U.vm) (hq : ∀ q : Nat, q < H.size → ¬ jA G q → H1[q]? = H[q]?) (h : jkf G c a s H) : jkf G c a U H1 :=
  ⟨fun h1 r hr => ⟨va_O.moved hvm ((h.1 h1 r hr).1.kept hq), fun k hk => ⟨((h.1 h1 r hr).2 k hk).1, va_OF.moved hvm (((h.1 h1 r hr).2 k hk).2.kept hq)⟩⟩, fun h1 => va_T.moved hvm ((h.2 h1).kept hq)⟩
theorem JC.moved {G : JG} {s U : State} {H H1 : Heap} (hvm : s.vm.Alike U.vm) (hq : ∀ q : Nat, q < H.size → ¬ jA G q → H1[q]? = H[q]?) (h : JC G s H) : JC G U H1 :=
  ⟨fun q hk => (h.1 q hk).moved hvm hq, fun i x hx => va_Z.moved hvm ((h.2.1 i x hx).kept hq), vx_Zq.moved hvm (h.2.2.1.kept hq), vx_Zq.moved hvm (h.2.2.2.kept hq)⟩
/-- a method: its name, code, locals, answer, handlers -/
abbrev MI : Type := MethodName × ByteArray × Nat × Option FieldType × List (Nat × Nat × Nat × Nat)
def jcw (M : MI) : Cond := if M.2.2.2.2 = [] then Cond.code M.1 M.2.1 M.2.2.1 M.2.2.2.1 else Cond.codeWith M.1 M.2.1 M.2.2.1 M.2.2.2.1 M.2.2.2.2
def jws (M : MI) : List Cond := jcw M :: lw_all
def JFix (M : MI) (d : Nat) (p : Program) (l : Launch) (R : Room) (s : State) (m : MethodId) (args : Array Value) (meth : Method) (c : Code) (G : JG) : Prop :=
  p.tables.exec = Jvm.exec ∧ c.code = M.2.1 ∧ c.maxLocals = M.2.2.1 ∧ meth.sig.returnType = M.2.2.2.1 ∧ c.exceptionTable.toList = tableOf M.2.2.2.2 ∧ s.vm.findClass M.1.cls = some m.cls ∧ (∀ w ∈ lw_all, w.before args s = true) ∧ meth.locks = false ∧ meth.name = M.1.name ∧ JK G s ∧ JC G s s.heap ∧ JN G ∧ gz G ≤ s.heap.size ∧ d ≤ R.frames ∧ 64 * d ≤ R.locals ∧ l.stackTraces = false
/-- an answer's instruction -/
def jri (cc : ByteArray) (pc : Nat) (ret : Option FieldType) : Option AV → Prop
  | none => ret = none ∧ decode cc pc = .ok (.return_, 1)
  | some (.inl (.inl x)) => (∃ ty, ret = some ty ∧ narrow ty (.int (Int32.ofInt x)) = .int (Int32.ofInt x)) ∧ decode cc pc = .ok (.ireturn, 1)
  | some (.inl (.inr _)) => ret = some .long ∧ decode cc pc = .ok (.lreturn, 1)
  | some (.inr _) => (∃ rt, ret = some rt ∧ ((∃ n, rt = .object n) ∨ ∃ t, rt = .array t)) ∧ decode cc pc = .ok (.areturn, 1)
def JRet (M : MI) (P : Option AV → AH → Prop) (p : Program) (l : Launch) (e : Env) (R : Room) (s : State) (m : MethodId) (args : Array Value) (below : List Frame) (meth : Method) (c : Code) (Qf : State → Prop) (G : JG) (n0 : Nat) (a0 : Nat → Nat) (CT ST : Nat) : Prop :=
  ∀ (v : Option AV) (h : AH) (ad : Nat → Nat) (H : Heap) (locs : List Loc) (cells slots : Nat) (lr : Array Slot) (pc : Nat), P v h → n0 ≤ h.1 → (∀ q, q < n0 → ad q = a0 q) → JHp G ad h H → va_S (jA G) s.heap H locs → (∀ w, v = some w → okv h.1 w) → cells ≤ CT → slots ≤ ST → jri M.2.1 pc M.2.2.2.1 v →
    W p l e R s m args below meth c H locs cells slots Qf (F0 m pc lr (v.toList.map (trv ad)))
/-- a class's name by its number -/
def jcn (ci : Nat) : String := match jcl[ci]? with
  | some r => r.1
  | none => ""
def JThr (M : MI) (X : Nat → Nat → AH → Prop) (p : Program) (l : Launch) (e : Env) (R : Room) (s : State) (m : MethodId) (args : Array Value) (below : List Frame) (meth : Method) (c : Code) (Qf : State → Prop) (G : JG) (n0 : Nat) (a0 : Nat → Nat) (CT ST : Nat) : Prop :=
  ∀ (ci q : Nat) (h : AH) (ad : Nat → Nat) (H : Heap) (locs : List Loc) (cells slots : Nat) (lr : Array Slot) (pc : Nat) (rest : List Value), X ci q h → n0 ≤ h.1 → (∀ q, q < n0 → ad q = a0 q) → JHp G ad h H → va_S (jA G) s.heap H locs → k0 ≤ q → q < h.1 → (h.2 q).1 = ci → ci < 24 → (∀ x ∈ c.exceptionTable.toList, covers x pc = false) → cells ≤ CT → slots ≤ ST →
    vx_W p l e R s m args below meth c H locs cells slots Qf (F0 m pc lr rest) (ad q)
/-- THE JUDGEMENT: from this point of the method M (depth d, at most kc cells of ks slots still to make) it returns with P or throws with X -/
def JW (M : MI) (d : Nat) (P : Option AV → AH → Prop) (X : Nat → Nat → AH → Prop) (kc ks pc : Nat) (ls : LV) (st : List AV) (h : AH) : Prop :=
  ∀ (p : Program) (l : Launch) (e : Env) (R : Room) (s : State) (m : MethodId) (args : Array Value) (below : List Frame) (meth : Method) (c : Code) (Qf : State → Prop) (G : JG) (n0 : Nat) (a0 ad : Nat → Nat) (CT ST : Nat) (H : Heap) (locs : List Loc) (cells slots : Nat) (lr : Array Slot),
    JFix M d p l R s m args meth c G → JRet M P p l e R s m args below meth c Qf G n0 a0 CT ST → JThr M X p l e R s m args below meth c Qf G n0 a0 CT ST →
    n0 ≤ h.1 → (∀ q, q < n0 → ad q = a0 q) → JHp G ad h H → va_S (jA G) s.heap H locs → (cells + kc ≤ CT ∧ slots + ks ≤ ST ∧ CT ≤ R.cells ∧ ST ≤ R.slots) →
    lv_has lr M.2.2.1 (trl ad ls) → okls h.1 ls → oks h.1 st →
    W p l e R s m args below meth c H locs cells slots Qf (F0 m pc lr (st.map (trv ad)))
/-- the same, with the thing at q (of class number ci) thrown over the frame -/
def JE (M : MI) (d : Nat) (P : Option AV → AH → Prop) (X : Nat → Nat → AH → Prop) (kc ks pc : Nat) (ls : LV) (h : AH) (ci q : Nat) : Prop :=
  k0 ≤ q → q < h.1 → (h.2 q).1 = ci → ci < 24 → ∀ (p : Program) (l : Launch) (e : Env) (R : Room) (s : State) (m : MethodId) (args : Array Value) (below : List Frame) (meth : Method) (c : Code) (Qf : State → Prop) (G : JG) (n0 : Nat) (a0 ad : Nat → Nat) (CT ST : Nat) (H : Heap) (locs : List Loc) (cells slots : Nat) (lr : Array Slot) (rest : List Value),
    JFix M d p l R s m args meth c G → JRet M P p l e R s m args below meth c Qf G n0 a0 CT ST → JThr M X p l e R s m args below meth c Qf G n0 a0 CT ST →
    n0 ≤ h.1 → (∀ q, q < n0 → ad q = a0 q) → JHp G ad h H → va_S (jA G) s.heap H locs → (cells + kc ≤ CT ∧ slots + ks ≤ ST ∧ CT ≤ R.cells ∧ ST ≤ R.slots) →
    lv_has lr M.2.2.1 (trl ad ls) → okls h.1 ls →
    vx_W p l e R s m args below meth c H locs cells slots Qf (F0 m pc lr rest) (ad q)
/-- no more is left to be made than is asked for -/
theorem JW.less {M : MI} {d : Nat} {P : Option AV → AH → Prop} {X : Nat → Nat → AH → Prop} {kc ks kc' ks' pc : Nat} {ls : LV} {st : List AV} {h : AH} (h1 : kc' ≤ kc) (h2 : ks' ≤ ks) (k : JW M d P X kc' ks' pc ls st h) : JW M d P X kc ks pc ls st h := by
  intro p l e R s m args below meth c Qf G n0 a0 ad CT ST H locs cells slots lr hF hR hT hn ha hJ hS hc hv hw hu
  exact k p l e R s m args below meth c Qf G n0 a0 ad CT ST H locs cells slots lr hF hR hT hn ha hJ hS ⟨by omega, by omega, hc.2.2⟩ hv hw hu
/-- fewer locals are known -/
theorem JW.locs {M : MI} {d : Nat} {P : Option AV → AH → Prop} {X : Nat → Nat → AH → Prop} {kc ks pc : Nat} {ls ls' : LV} {st : List AV} {h : AH} (hl : ∀ q ∈ ls', q ∈ ls) (k : JW M d P X kc ks pc ls' st h) : JW M d P X kc ks pc ls st h := by
  intro p l e R s m args below meth c Qf G n0 a0 ad CT ST H locs cells slots lr hF hR hT hn ha hJ hS hc hv hw hu
  exact k p l e R s m args below meth c Qf G n0 a0 ad CT ST H locs cells slots lr hF hR hT hn ha hJ hS hc (lv_less hv (trl_less hl)) (fun q hq => hw q (hl q hq)) hu
/-- what is known of any state: its values are in their ranges, its places are there -/
theorem JW.ok {M : MI} {d : Nat} {P : Option AV → AH → Prop} {X : Nat → Nat → AH → Prop} {kc ks pc : Nat} {ls : LV} {st : List AV} {h : AH} (k : okh h → okls h.1 ls → oks h.1 st → k0 ≤ h.1 → JW M d P X kc ks pc ls st h) : JW M d P X kc ks pc ls st h := by
  intro p l e R s m args below meth c Qf G n0 a0 ad CT ST H locs cells slots lr hF hR hT hn ha hJ hS hc hv hw hu
  exact k hJ.2.2.1 hw hu hJ.1 p l e R s m args below meth c Qf G n0 a0 ad CT ST H locs cells slots lr hF hR hT hn ha hJ hS hc hv hw hu
theorem JW.to {M : MI} {d : Nat} {P : Option AV → AH → Prop} {X : Nat → Nat → AH → Prop} {kc ks pc : Nat} {ls ls' : LV} {st st' : List AV} {h h' : AH} (k : JW M d P X kc ks pc ls' st' h') (e1 : ls = ls') (e2 : st = st') (e3 : h = h') : JW M d P X kc ks pc ls st h := by
  subst e1; subst e2; subst e3; exact k
/-- the end may be asked for less -/
theorem JW.post {M : MI} {d : Nat} {P P' : Option AV → AH → Prop} {X X' : Nat → Nat → AH → Prop} {kc ks pc : Nat} {ls : LV} {st : List AV} {h : AH} (h1 : ∀ v h, P' v h → P v h) (h2 : ∀ ci q h, X' ci q h → X ci q h) (k : JW M d P' X' kc ks pc ls st h) : JW M d P X kc ks pc ls st h := by
  intro p l e R s m args below meth c Qf G n0 a0 ad CT ST H locs cells slots lr hF hR hT hn ha hJ hS hc hv hw hu
  exact k p l e R s m args below meth c Qf G n0 a0 ad CT ST H locs cells slots lr hF (fun v h ad H locs cells slots lr pc hp => hR v h ad H locs cells slots lr pc (h1 v h hp)) (fun ci q h ad H locs cells slots lr pc rest hx => hT ci q h ad H locs cells slots lr pc rest (h2 ci q h hx)) hn ha hJ hS hc hv hw hu
/-- a step that touches the stack alone -/
theorem JW.pure {M : MI} {d : Nat} {P : Option AV → AH → Prop} {X : Nat → Nat → AH → Prop} {kc ks pc pc' : Nat} {ls : LV} {st st' : List AV} {h : AH}
    (hok : okls h.1 ls → oks h.1 st → oks h.1 st')
    (hstep : ∀ (p : Program) (l : Launch) (e : Env) (R : Room) (s : State) (m : MethodId) (args : Array Value) (below : List Frame) (meth : Method) (c : Code) (Qf : State → Prop) (ad : Nat → Nat) (H : Heap) (locs : List Loc) (cells slots : Nat) (lr : Array Slot), p.tables.exec = Jvm.exec → c.code = M.2.1 → s.vm.findClass M.1.cls = some m.cls → (∀ w ∈ lw_all, w.before args s = true) → lv_has lr M.2.2.1 (trl ad ls) → okls h.1 ls → oks h.1 st → W p l e R s m args below meth c H locs cells slots Qf (F0 m pc' lr (st'.map (trv ad))) → W p l e R s m args below meth c H locs cells slots Qf (F0 m pc lr (st.map (trv ad))))
    (k : JW M d P X kc ks pc' ls st' h) : JW M d P X kc ks pc ls st h := by
  intro p l e R s m args below meth c Qf G n0 a0 ad CT ST H locs cells slots lr hF hR hT hn ha hJ hS hc hv hw hu
  exact hstep p l e R s m args below meth c Qf ad H locs cells slots lr hF.1 hF.2.1 hF.2.2.2.2.2.1 hF.2.2.2.2.2.2.1 hv hw hu (k p l e R s m args below meth c Qf G n0 a0 ad CT ST H locs cells slots lr hF hR hT hn ha hJ hS hc hv hw (hok hw hu))
/-- a branch -/
theorem JW.branch {M : MI} {d : Nat} {P : Option AV → AH → Prop} {X : Nat → Nat → AH → Prop} {kc ks pc pt pf : Nat} {ls : LV} {st st' : List AV} {h : AH} {C : Prop}
    (hok : oks h.1 st → oks h.1 st')
    (hstep : ∀ (p : Program) (l : Launch) (e : Env) (R : Room) (s : State) (m : MethodId) (args : Array Value) (below : List Frame) (meth : Method) (c : Code) (Qf : State → Prop) (ad : Nat → Nat) (H : Heap) (locs : List Loc) (cells slots : Nat) (lr : Array Slot) (G : JG), p.tables.exec = Jvm.exec → c.code = M.2.1 → oks h.1 st → JN G → JHp G ad h H → (C → W p l e R s m args below meth c H locs cells slots Qf (F0 m pt lr (st'.map (trv ad)))) → (¬ C → W p l e R s m args below meth c H locs cells slots Qf (F0 m pf lr (st'.map (trv ad)))) → W p l e R s m args below meth c H locs cells slots Qf (F0 m pc lr (st.map (trv ad))))
    (kt : C → JW M d P X kc ks pt ls st' h) (kf : ¬ C → JW M d P X kc ks pf ls st' h) : JW M d P X kc ks pc ls st h := by
  intro p l e R s m args below meth c Qf G n0 a0 ad CT ST H locs cells slots lr hF hR hT hn ha hJ hS hc hv hw hu
  exact hstep p l e R s m args below meth c Qf ad H locs cells slots lr G hF.1 hF.2.1 hu hF.2.2.2.2.2.2.2.2.2.2.2.1 hJ
    (fun q => kt q p l e R s m args below meth c Qf G n0 a0 ad CT ST H locs cells slots lr hF hR hT hn ha hJ hS hc hv hw (hok hu))
    (fun q => kf q p l e R s m args below meth c Qf G n0 a0 ad CT ST H locs cells slots lr hF hR hT hn ha hJ hS hc hv hw (hok hu))
