/-! ROWS: the heap -/
set_option maxRecDepth 100000
theorem okc_mono {n k : Nat} (h : n ≤ k) {c : AC} (hc : okc n c) : okc k c := fun j => okv_mono h (hc j)
/-- a cell's new contents -/
def hupd (h : AH) (q : Nat) (c : AC) : AH := (h.1, fun z => if z = q then c else h.2 z)
def hset (h : AH) (q : Nat) (k : Int) (v : AV) : AH := hupd h q ((h.2 q).1, (h.2 q).2.1, fun j => if j = k then v else (h.2 q).2.2 j)
def hpush (h : AH) (c : AC) : AH := (h.1 + 1, fun z => if z = h.1 then c else h.2 z)
theorem hupd_s (h : AH) (q : Nat) (c : AC) : (hupd h q c).2 q = c := if_pos rfl
theorem hupd_n (h : AH) {q z : Nat} (c : AC) (n : ¬ z = q) : (hupd h q c).2 z = h.2 z := if_neg n
theorem hpush_s (h : AH) (c : AC) : (hpush h c).2 h.1 = c := if_pos rfl
theorem hpush_n (h : AH) {z : Nat} (c : AC) (n : ¬ z = h.1) : (hpush h c).2 z = h.2 z := if_neg n
theorem wsOf_len (G : JG) (ad : Nat → Nat) (h : AH) : (wsOf G ad h).length = h.1 - k0 := by unfold wsOf; rw [List.length_map, List.length_range]
theorem wsOf_upd {G : JG} {ad : Nat → Nat} {h : AH} {q : Nat} {c : AC} (h1 : k0 ≤ q) (h2 : q < h.1) : wsOf G ad (hupd h q c) = (wsOf G ad h).set (q - k0) (ad q, toE (gA G) ad c) := by
  apply List.ext_getElem?
  intro j
  by_cases hj : j < h.1 - k0
  · have e1 := wsOf_at (G := G) (ad := ad) (h := hupd h q c) (q := k0 + j) (by omega) (show k0 + j < h.1 by omega)
    have e2 := wsOf_at (G := G) (ad := ad) (h := h) (q := k0 + j) (by omega) (by omega)
    rw [show k0 + j - k0 = j by omega] at e1 e2
    rw [e1, List.getElem?_set]
    by_cases hq : q - k0 = j
    · rw [if_pos hq, if_pos (by rw [wsOf_len]; omega)]
      have e : k0 + j = q := by omega
      rw [e, hupd_s]
    · rw [if_neg hq, e2, hupd_n h c (show ¬ k0 + j = q by omega)]
  · rw [List.getElem?_eq_none (by rw [wsOf_len]; show h.1 - k0 ≤ j; omega), List.getElem?_eq_none (by rw [List.length_set, wsOf_len]; omega)]
theorem toA_ext {n t : Nat} {a b : Nat → Nat} (he : ∀ q, q < n → b q = a q) {f : Int → AV} (hf : ∀ k, okv n (f k)) : toA b t f = toA a t f := by
  unfold toA
  split
  · rfl
  · split
    · rfl
    · have e : (fun j : Nat => kR b (f j)) = fun j : Nat => kR a (f j) := by
        funext j
        have h1 := hf j
        generalize f j = v at h1
        match v, h1 with
        | .inl (.inl x), h1 => rfl
        | .inl (.inr x), h1 => rfl
        | .inr none, h1 => rfl
        | .inr (some p), h1 => show some (b p) = some (a p); rw [he p h1]
      rw [e]
theorem toE_ext {n : Nat} {dA : Nat → ClassId} {a b : Nat → Nat} (he : ∀ q, q < n → b q = a q) {c : AC} (hc : okc n c) : toE dA b c = toE dA a c := by
  unfold toE
  split
  · have e : (List.range c.2.1).map (fun (k : Nat) => trv b (c.2.2 k)) = (List.range c.2.1).map (fun (k : Nat) => trv a (c.2.2 k)) := List.map_congr_left fun k _ => trv_ext he (hc k)
    rw [e]
  · rw [toA_ext he hc]
theorem wsOf_push {G : JG} {a b : Nat → Nat} {h : AH} {c : AC} (h0 : k0 ≤ h.1) (ho : okh h) (he : ∀ q, q < h.1 → b q = a q) : wsOf G b (hpush h c) = wsOf G a h ++ [(b h.1, toE (gA G) b c)] := by
  apply List.ext_getElem?
  intro j
  by_cases hj : j < h.1 - k0
  · have e1 := wsOf_at (G := G) (ad := b) (h := hpush h c) (q := k0 + j) (by omega) (show k0 + j < h.1 + 1 by omega)
    have e2 := wsOf_at (G := G) (ad := a) (h := h) (q := k0 + j) (by omega) (by omega)
    rw [show k0 + j - k0 = j by omega] at e1 e2
    rw [e1, List.getElem?_append_left (by rw [wsOf_len]; exact hj), e2]
    rw [hpush_n h c (show ¬ k0 + j = h.1 by omega), he _ (by omega), toE_ext he (ho _ (by omega))]
  · by_cases hj2 : j = h.1 - k0
    · have e1 := wsOf_at (G := G) (ad := b) (h := hpush h c) (q := h.1) h0 (show h.1 < h.1 + 1 by omega)
      rw [hj2, e1, List.getElem?_append_right (by rw [wsOf_len]; exact Nat.le_refl _), wsOf_len, Nat.sub_self, hpush_s]
      rfl
    · rw [List.getElem?_eq_none (by rw [wsOf_len]; show h.1 + 1 - k0 ≤ j; omega), List.getElem?_eq_none (by rw [List.length_append, wsOf_len]; show h.1 - k0 + 1 ≤ j; omega)]
theorem okh_upd {h : AH} {q : Nat} {c : AC} (ho : okh h) (hc : okc h.1 c) : okh (hupd h q c) := by
  intro z hz
  show okc h.1 (if z = q then c else h.2 z)
  split
  · exact hc
  · exact ho z hz
theorem okh_push {h : AH} {c : AC} (ho : okh h) (hc : okc (h.1 + 1) c) : okh (hpush h c) := by
  intro z hz
  show okc (h.1 + 1) (if z = h.1 then c else h.2 z)
  split
  · exact hc
  · rename_i e
    have hz : z < h.1 + 1 := hz
    exact okc_mono (Nat.le_succ _) (ho z (by omega))
theorem okc_set {n : Nat} {c : AC} {k : Int} {v : AV} (hc : okc n c) (hv : okv n v) : okc n (c.1, c.2.1, fun j => if j = k then v else c.2.2 j) := by
  intro j
  show okv n (if j = k then v else c.2.2 j)
  split
  · exact hv
  · exact hc j
theorem trs_cat (ad : Nat → Nat) (st : List AV) : ((st.map (trv ad)).map fun v => v.category).sum = jsize st := by
  induction st with
  | nil => rfl
  | cons v r ih =>
    rw [List.map_cons, List.map_cons, List.sum_cons, ih, trv_cat]
    rfl
/-- a class's field, by an entry of the constants of 'own': the k-th of class number ci -/
def FldB (own : String) (idx : Nat) (T : u_T) (k : Nat) : Prop := ∃ ref : String, (ref = (T k).1 ∨ Cond.sameField ref (T k).1 (T k).2.1 (T k).2.2.1 ∈ lw_all) ∧ (Cond.fieldLink own idx ref (T k).2.1 (T k).2.2.1 ∈ lw_all)
def FldNB (own : String) (idx : Nat) (T : u_T) (k : Nat) : Prop := ∃ ref host : String, (ref = (T k).1 ∨ Cond.sameField ref (T k).1 (T k).2.1 (T k).2.2.1 ∈ lw_all) ∧ (Cond.fieldLinkNest own idx ref (T k).2.1 (T k).2.2.1 host ∈ lw_tbl)
def Fld (own : String) (idx ci k : Nat) : Prop := ∃ (C : String) (T : u_T) (N : Nat), jcl[ci]? = some (C, T, N) ∧ k < N ∧ (∀ w ∈ u_ws C T N, w ∈ lw_all) ∧ FldB own idx T k
def FldN (own : String) (idx ci k : Nat) : Prop := ∃ (C : String) (T : u_T) (N : Nat), jcl[ci]? = some (C, T, N) ∧ k < N ∧ (∀ w ∈ u_ws C T N, w ∈ lw_all) ∧ FldNB own idx T k
theorem fld_same {s : State} {args : Array Value} {ref o n d : String} (hw : ∀ w ∈ lw_all, w.before args s = true) (h : ref = o ∨ Cond.sameField ref o n d ∈ lw_all) : ∀ x, s.fieldFound? o n d = some x → s.fieldFound? ref n d = some x := by
  rcases h with h | h
  · intro x hx; rw [h]; exact hx
  · intro x hx; exact u_same (hw _ h) x hx
theorem ci_lt {ci : Nat} {r : vw_C} (h : jcl[ci]? = some r) : ci < 24 := (List.getElem?_eq_some_iff.mp h).1
theorem fs_at {ad : Nat → Nat} {c : AC} {k : Nat} (hk : k < c.2.1) : ((List.range c.2.1).map fun (k : Nat) => trv ad (c.2.2 k))[k]? = some (trv ad (c.2.2 k)) := by
  rw [List.getElem?_map, List.getElem?_range hk]; rfl
section
variable {M : MI} {d : Nat} {P : Option AV → AH → Prop} {X : Nat → Nat → AH → Prop} {kc ks pc : Nat} {ls : LV} {st : List AV} {h : AH}
/-- a field of an object, be it one of the run's own or a constant -/
theorem JW.getf {idx ci k q : Nat} {v : AV} (hd : decode M.2.1 pc = .ok (.getfield idx, 3)) (hf : Fld M.1.cls idx ci k) (ht : (h.2 q).1 = ci) (hl : k < (h.2 q).2.1) (hv : (h.2 q).2.2 k = v) (kk : JW M d P X kc ks (pc + 3) ls (v :: st) h) : JW M d P X kc ks pc ls (vR q :: st) h := by
  intro p l e R s m args below meth c Qf G n0 a0 ad CT ST H locs cells slots lr hF hR hT hn ha hJ hS hc hlv hw hu
  obtain ⟨C, T, N, hcl, hkN, hin, ref, hsm, hlk⟩ := hf
  have hq : q < h.1 := oks_1 hu
  have hts := hF.2.2.2.2.2.2.1
  have hok : okv h.1 v := by rw [← hv]; exact hJ.2.2.1 q hq k
  have K := kk p l e R s m args below meth c Qf G n0 a0 ad CT ST H locs cells slots lr hF hR hT hn ha hJ hS hc hlv hw (oks_cons hok (oks_t hu))
  by_cases hk : q < k0
  · obtain ⟨e1, e2⟩ := hJ.2.1 q hk
    have hkf := (hF.2.2.2.2.2.2.2.2.2.2.1.1 q hk).1
    rw [← e2, ht] at hkf
    have h5 := ((hkf (by have := ci_lt hcl; omega) _ hcl).2 k hl).2
    rw [hv] at h5
    have h6 : trv (ga G) v = trv ad v := (trv_ext (n := k0) (fun z hz => (hJ.2.1 z hz).1) (by rw [← hv, e2]; exact hF.2.2.2.2.2.2.2.2.2.2.2.1.2.2.2 q hk k)).symm
    rw [h6, ← e1] at h5
    exact vk_getf hF.1 hF.2.1 h5 hS hF.2.2.2.2.2.1 (hts _ hlk) (fld_same hts hsm) hd K
  · have e := wsOf_at (G := G) (ad := ad) (h := h) (q := q) (by omega) hq
    unfold toE at e
    rw [if_pos (by rw [ht]; have := ci_lt hcl; omega), ht] at e
    refine va_get hF.1 hF.2.1 hts hin hF.2.2.2.2.2.1 hF.2.2.2.2.2.2.2.2.2.1.1 hJ.2.2.2.1 _ e hcl k hkN (hts _ hlk) (fld_same hts hsm) (fs_at hl) hd ?_
    rw [hv]
    exact K
theorem JW.getfN {idx ci k q : Nat} {v : AV} (hd : decode M.2.1 pc = .ok (.getfield idx, 3)) (hf : FldN M.1.cls idx ci k) (hk : k0 ≤ q) (ht : (h.2 q).1 = ci) (hl : k < (h.2 q).2.1) (hv : (h.2 q).2.2 k = v) (kk : JW M d P X kc ks (pc + 3) ls (v :: st) h) : JW M d P X kc ks pc ls (vR q :: st) h := by
  intro p l e R s m args below meth c Qf G n0 a0 ad CT ST H locs cells slots lr hF hR hT hn ha hJ hS hc hlv hw hu
  obtain ⟨C, T, N, hcl, hkN, hin, ref, host, hsm, hlk⟩ := hf
  have hq : q < h.1 := oks_1 hu
  have hts := hF.2.2.2.2.2.2.1
  have hok : okv h.1 v := by rw [← hv]; exact hJ.2.2.1 q hq k
  have K := kk p l e R s m args below meth c Qf G n0 a0 ad CT ST H locs cells slots lr hF hR hT hn ha hJ hS hc hlv hw (oks_cons hok (oks_t hu))
  have e := wsOf_at (G := G) (ad := ad) (h := h) (q := q) hk hq
  unfold toE at e
  rw [if_pos (by rw [ht]; have := ci_lt hcl; omega), ht] at e
  refine va_getN hF.1 hF.2.1 hts hin hF.2.2.2.2.2.1 hF.2.2.2.2.2.2.2.2.2.1.1 hJ.2.2.2.1 _ e hcl k hkN (va_Nw.use rfl (hF.2.2.2.2.2.2.2.2.2.1.2.1 _ hlk rfl)) (fld_same hts hsm) (fs_at hl) hd ?_
  rw [hv]
  exact K
/-- a value may lie in a field of that type -/
def jfit (ty : FieldType) (v : AV) : Prop := ∀ ad : Nat → Nat, narrow ty (trv ad v) = trv ad v ∧ fits ty (trv ad v) = true
def FldP (own mn : String) (idx ci k : Nat) (ty : FieldType) : Prop := ∃ (C : String) (T : u_T) (N : Nat) (ty0 : Nat → FieldType), jcl[ci]? = some (C, T, N) ∧ k < N ∧ (∀ w ∈ u_ws C T N, w ∈ lw_all) ∧ FldB own idx T k ∧ (∀ k, k < N → parseFieldDescriptor (T k).2.2.1 = some (ty0 k)) ∧ (∀ a, a < N → ∀ b, b < N → a ≠ b → (T a).2.1 ≠ (T b).2.1) ∧ ((T k).2.2.2 = false ∨ ((T k).2.2.2 = true ∧ mn = "<init>" ∧ (T k).1 = own)) ∧ parseFieldDescriptor (T k).2.2.1 = some ty
theorem toE_setf {dA : Nat → ClassId} {ad : Nat → Nat} {c : AC} {k : Nat} {v : AV} (h1 : c.1 < 100) (h2 : k < c.2.1) : toE dA ad (c.1, c.2.1, fun j => if j = (k : Int) then v else c.2.2 j) = .inr (c.1, ((List.range c.2.1).map fun (k : Nat) => trv ad (c.2.2 k)).set k (trv ad v)) := by
  unfold toE
  rw [if_pos h1]
  show Sum.inr (c.1, (List.range c.2.1).map fun (j : Nat) => trv ad (if (j : Int) = (k : Int) then v else c.2.2 j)) = _
  have e : (List.range c.2.1).map (fun (j : Nat) => trv ad (if (j : Int) = (k : Int) then v else c.2.2 j)) = ((List.range c.2.1).map fun (k : Nat) => trv ad (c.2.2 k)).set k (trv ad v) := by
    apply List.ext_getElem?
    intro j
    rw [List.getElem?_set, List.getElem?_map, List.getElem?_map, List.length_map, List.length_range]
    by_cases hj : j < c.2.1
    · rw [List.getElem?_range hj]
      by_cases hk : k = j
      · subst hk; rw [if_pos rfl, if_pos h2]; show some (trv ad (if ((k : Nat) : Int) = k then v else c.2.2 k)) = _; rw [if_pos rfl]
      · rw [if_neg hk]; show some (trv ad (if ((j : Nat) : Int) = k then v else c.2.2 j)) = _; rw [if_neg (by omega)]; rfl
    · rw [List.getElem?_eq_none (by rw [List.length_range]; omega), if_neg (show ¬ k = j by omega)]; rfl
  rw [e]
theorem JHp.upd {G : JG} {ad : Nat → Nat} {H H1 : Heap} {q : Nat} {c : AC} {E : va_E} (hJ : JHp G ad h H) (h1 : k0 ≤ q) (hc : okc h.1 c) (hE : toE (gA G) ad c = E) (h2 : q < h.1)
    (hP : va_P (gD G) jcl ((wsOf G ad h).set (q - k0) (ad q, E)) H1) (hD : va_D (jA G) ((wsOf G ad h).set (q - k0) (ad q, E))) : JHp G ad (hupd h q c) H1 := by
  subst hE
  rw [← wsOf_upd h1 h2] at hP hD
  refine ⟨hJ.1, fun z hz => ⟨(hJ.2.1 z hz).1, ?_⟩, okh_upd hJ.2.2.1 hc, hP, hD⟩
  show (if z = q then c else h.2 z) = _
  rw [if_neg (by omega)]
  exact (hJ.2.1 z hz).2
theorem JW.putf {idx ci k q : Nat} {ty : FieldType} {v : AV} {h' : AH} (hd : decode M.2.1 pc = .ok (.putfield idx, 3)) (hf : FldP M.1.cls M.1.name idx ci k ty) (hk : k0 ≤ q) (ht : (h.2 q).1 = ci) (hl : k < (h.2 q).2.1) (hv : jfit ty v) (hh : hset h q k v = h') (kk : JW M d P X kc ks (pc + 3) ls st h') : JW M d P X kc ks pc ls (v :: vR q :: st) h := by
  intro p l e R s m args below meth c Qf G n0 a0 ad CT ST H locs cells slots lr hF hR hT hn ha hJ hS hc hlv hw hu
  subst hh
  obtain ⟨C, T, N, ty0, hcl, hkN, hin, ⟨ref, hsm, hlk⟩, hty, hnm, hfin, hdesc⟩ := hf
  have hq : q < h.1 := oks_1 (oks_t hu)
  have hts := hF.2.2.2.2.2.2.1
  have h100 : (h.2 q).1 < 100 := by rw [ht]; have := ci_lt hcl; omega
  have he1 := wsOf_at (G := G) (ad := ad) (h := h) (q := q) hk hq
  unfold toE at he1
  rw [if_pos h100, ht] at he1
  have hE : toE (gA G) ad ((h.2 q).1, (h.2 q).2.1, fun j => if j = (k : Int) then v else (h.2 q).2.2 j) = .inr (ci, ((List.range (h.2 q).2.1).map fun (k : Nat) => trv ad ((h.2 q).2.2 k)).set k (trv ad v)) := by rw [← ht]; exact toE_setf h100 hl
  have hok2 : okc h.1 ((h.2 q).1, (h.2 q).2.1, fun j => if j = (k : Int) then v else (h.2 q).2.2 j) := okc_set (hJ.2.2.1 q hq) (oks_1 hu)
  show W p l e R s m args below meth c H locs cells slots Qf (F0 m pc lr (trv ad v :: .ref (ad q) :: st.map (trv ad)))
  have kk2 : ∀ (H1 : Heap) (locs1 : List Loc), va_P (gD G) jcl ((wsOf G ad h).set (q - k0) (ad q, .inr (ci, ((List.range (h.2 q).2.1).map fun (k : Nat) => trv ad ((h.2 q).2.2 k)).set k (trv ad v)))) H1 → va_D (jA G) ((wsOf G ad h).set (q - k0) (ad q, .inr (ci, ((List.range (h.2 q).2.1).map fun (k : Nat) => trv ad ((h.2 q).2.2 k)).set k (trv ad v)))) → va_S (jA G) s.heap H1 locs1 → W p l e R s m args below meth c H1 locs1 cells slots Qf (F0 m (pc + 3) lr (st.map (trv ad))) := fun H1 locs1 hP hD hS1 =>
    kk p l e R s m args below meth c Qf G n0 a0 ad CT ST H1 locs1 cells slots lr hF hR hT hn ha (hJ.upd hk hok2 hE hq hP hD) hS1 hc hlv hw (oks_t (oks_t hu))
  rcases hfin with hfin | ⟨hfin, hmn, hown⟩
  · exact va_put hF.1 hF.2.1 hts hin ty0 hty hnm hF.2.2.2.2.2.1 hF.2.2.2.2.2.2.2.2.2.1.1 hJ.2.2.2.1 hJ.2.2.2.2 hS _ he1 hcl k hkN (hts _ hlk) (fld_same hts hsm) hfin hdesc (hv ad).1 (hv ad).2 (by rw [List.length_map, List.length_range]; exact hl) hd kk2
  · exact va_putF hF.1 hF.2.1 hts hin ty0 hty hnm hF.2.2.2.2.2.1 hF.2.2.2.2.2.2.2.2.2.1.1 hJ.2.2.2.1 hJ.2.2.2.2 hS _ he1 hcl k hkN (hts _ hlk) (fld_same hts hsm) hfin (hF.2.2.2.2.2.2.2.2.1.trans hmn) hown hdesc (hv ad).1 (hv ad).2 (by rw [List.length_map, List.length_range]; exact hl) hd kk2
end
