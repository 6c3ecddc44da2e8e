/-! ROWS: arrays -/
set_option maxRecDepth 100000
theorem toE_arr {dA : Nat → ClassId} {ad : Nat → Nat} {c : AC} {t : Nat} (ht : c.1 = t) (h : 100 ≤ t) : toE dA ad c = .inl (dA (t - 100), c.2.1, toA ad t c.2.2) := by
  unfold toE
  rw [if_neg (by omega), ht]
theorem toA_i {ad : Nat → Nat} {t : Nat} {f : Int → AV} (h : t < 104) : toA ad t f = .inl (fun j => kI (f j)) := if_pos h
theorem toA_l {ad : Nat → Nat} {f : Int → AV} : toA ad 104 f = .inr (.inl fun j => kL (f j)) := by unfold toA; rw [if_neg (by decide), if_pos rfl]
theorem toA_r {ad : Nat → Nat} {t : Nat} {f : Int → AV} (h : 104 < t) : toA ad t f = .inr (.inr (.inr (.inr fun j => kR ad (f j)))) := by unfold toA; rw [if_neg (by omega), if_neg (by omega)]
theorem upd_i {f : Int → AV} {i x : Int} {v : Int32} (h0 : 0 ≤ i) (hv : v = Int32.ofInt x) : (fun j : Nat => kI (if (j : Int) = i then vI x else f j)) = upd (fun j => kI (f j)) i.toNat v := by
  funext j
  show _ = if j = i.toNat then v else kI (f j)
  by_cases hj : (j : Int) = i
  · rw [if_pos hj, if_pos (by omega), hv]; rfl
  · rw [if_neg hj, if_neg (by omega)]
theorem upd_l {f : Int → AV} {i x : Int} (h0 : 0 ≤ i) : (fun j : Nat => kL (if (j : Int) = i then vL x else f j)) = vp_updL (fun j => kL (f j)) i.toNat (Int64.ofInt x) := by
  funext j
  show _ = if j = i.toNat then Int64.ofInt x else kL (f j)
  by_cases hj : (j : Int) = i
  · rw [if_pos hj, if_pos (by omega)]; rfl
  · rw [if_neg hj, if_neg (by omega)]
theorem upd_r {ad : Nat → Nat} {f : Int → AV} {i : Int} {r : Option Nat} (h0 : 0 ≤ i) : (fun j : Nat => kR ad (if (j : Int) = i then Sum.inr r else f j)) = va_up (fun j => kR ad (f j)) i.toNat (r.map ad) := by
  funext j
  show _ = if j = i.toNat then r.map ad else kR ad (f j)
  by_cases hj : (j : Int) = i
  · rw [if_pos hj, if_pos (by omega)]
    cases r <;> rfl
  · rw [if_neg hj, if_neg (by omega)]
theorem trv_r (ad : Nat → Nat) (r : Option Nat) : trv ad (Sum.inr r) = va_rf (r.map ad) := by cases r <;> rfl
theorem jat_obj {i : Nat} (h : 5 ≤ i) : ∃ C, jat i = .object C := by
  match i, h with
  | 5, _ => exact ⟨_, rfl⟩
  | 6, _ => exact ⟨_, rfl⟩
  | 7, _ => exact ⟨_, rfl⟩
  | 8, _ => exact ⟨_, rfl⟩
  | 9, _ => exact ⟨_, rfl⟩
  | i + 10, _ => exact ⟨_, rfl⟩
theorem jc_arr {G : JG} {s : State} {H H0 : Heap} {ad : Nat → Nat} {h : AH} {q t : Nat} (hC : JC G s H) (hN : JN G) (hJ : JHp G ad h H0) (hk : q < k0) (ht : (h.2 q).1 = t) (h1 : 100 ≤ t) : va_T (jat (t - 100)) (ad q) (h.2 q).2.1 (fun j => trv ad ((h.2 q).2.2 j)) (jA G) s H := by
  obtain ⟨e1, e2⟩ := hJ.2.1 q hk
  have h5 := (hC.1 q hk).2
  rw [← e2, ht] at h5
  have h6 := h5 h1
  rw [e1]
  have e3 : (fun j : Nat => trv ad ((h.2 q).2.2 (j : Int))) = fun j : Nat => trv (ga G) ((h.2 q).2.2 (j : Int)) := by
    funext j
    exact trv_ext (n := k0) (fun z hz => (hJ.2.1 z hz).1) (by rw [e2]; exact hN.2.2.2 q hk _)
  rw [e3]
  exact h6
section
variable {M : MI} {d : Nat} {P : Option AV → AH → Prop} {X : Nat → Nat → AH → Prop} {kc ks pc : Nat} {ls : LV} {st : List AV} {h : AH}
theorem JW.iaload {i x : Int} {q : Nat} (hd : decode M.2.1 pc = .ok (.iaload, 1)) (ht : (h.2 q).1 = 100) (h0 : 0 ≤ i) (h1 : i < (h.2 q).2.1) (hv : (h.2 q).2.2 i = vI x) (kk : JW M d P X kc ks (pc + 1) ls (vI x :: st) h) : JW M d P X kc ks pc ls (vI i :: vR q :: st) h := by
  intro p l e R s m args below meth c Qf G n0 a0 ad CT ST H locs cells slots lr hF hR hT hn ha hJ hS hc hlv hw hu
  have hq : q < h.1 := oks_1 (oks_t hu)
  have hi := ofI_in (oks_1 hu) h0 h1
  have hcl : (Int32.ofInt i).toNatClampNeg = i.toNat := ofI_clamp (oks_1 hu) h0
  have hii : ((i.toNat : Nat) : Int) = i := by omega
  have hok : okv h.1 (vI x) := by rw [← hv]; exact hJ.2.2.1 q hq i
  have K := kk p l e R s m args below meth c Qf G n0 a0 ad CT ST H locs cells slots lr hF hR hT hn ha hJ hS hc hlv hw (oks_cons hok (oks_t (oks_t hu)))
  show W p l e R s m args below meth c H locs cells slots Qf (F0 m pc lr (.int (Int32.ofInt i) :: .ref (ad q) :: st.map (trv ad)))
  by_cases hk : q < k0
  · exact va_ti hF.1 hF.2.1 (jc_arr hF.2.2.2.2.2.2.2.2.2.2.1 hF.2.2.2.2.2.2.2.2.2.2.2.1 hJ hk ht (by decide)) hS hi (by rw [hcl]; show trv ad ((h.2 q).2.2 ((i.toNat : Nat) : Int)) = _; rw [hii, hv]) hd K
  · have he1 := wsOf_at (G := G) (ad := ad) (h := h) (q := q) (by omega) hq
    rw [toE_arr ht (by decide), toA_i (by decide)] at he1
    refine va_iald hF.1 hF.2.1 hF.2.2.2.2.2.2.2.2.2.1.1 hJ.2.2.2.1 _ 0 he1 (jtys_at (by decide)) hi hd ?_
    rw [hcl, hii, hv]
    exact K
theorem JW.baload {i x : Int} {q : Nat} (hd : decode M.2.1 pc = .ok (.baload, 1)) (ht : (h.2 q).1 = 101) (h0 : 0 ≤ i) (h1 : i < (h.2 q).2.1) (hv : (h.2 q).2.2 i = vI x) (kk : JW M d P X kc ks (pc + 1) ls (vI x :: st) h) : JW M d P X kc ks pc ls (vI i :: vR q :: st) h := by
  intro p l e R s m args below meth c Qf G n0 a0 ad CT ST H locs cells slots lr hF hR hT hn ha hJ hS hc hlv hw hu
  have hq : q < h.1 := oks_1 (oks_t hu)
  have hi := ofI_in (oks_1 hu) h0 h1
  have hcl : (Int32.ofInt i).toNatClampNeg = i.toNat := ofI_clamp (oks_1 hu) h0
  have hii : ((i.toNat : Nat) : Int) = i := by omega
  have hok : okv h.1 (vI x) := by rw [← hv]; exact hJ.2.2.1 q hq i
  have K := kk p l e R s m args below meth c Qf G n0 a0 ad CT ST H locs cells slots lr hF hR hT hn ha hJ hS hc hlv hw (oks_cons hok (oks_t (oks_t hu)))
  show W p l e R s m args below meth c H locs cells slots Qf (F0 m pc lr (.int (Int32.ofInt i) :: .ref (ad q) :: st.map (trv ad)))
  by_cases hk : q < k0
  · exact va_tb hF.1 hF.2.1 (jc_arr hF.2.2.2.2.2.2.2.2.2.2.1 hF.2.2.2.2.2.2.2.2.2.2.2.1 hJ hk ht (by decide)) hS hi (by rw [hcl]; show trv ad ((h.2 q).2.2 ((i.toNat : Nat) : Int)) = _; rw [hii, hv]) hd K
  · have he1 := wsOf_at (G := G) (ad := ad) (h := h) (q := q) (by omega) hq
    rw [toE_arr ht (by decide), toA_i (by decide)] at he1
    refine va_bald hF.1 hF.2.1 hF.2.2.2.2.2.2.2.2.2.1.1 hJ.2.2.2.1 _ 1 he1 (jtys_at (by decide)) hi hd ?_
    rw [hcl, hii, hv]
    exact K
theorem JW.zaload {i x : Int} {q : Nat} (hd : decode M.2.1 pc = .ok (.baload, 1)) (ht : (h.2 q).1 = 102) (h0 : 0 ≤ i) (h1 : i < (h.2 q).2.1) (hv : (h.2 q).2.2 i = vI x) (kk : JW M d P X kc ks (pc + 1) ls (vI x :: st) h) : JW M d P X kc ks pc ls (vI i :: vR q :: st) h := by
  intro p l e R s m args below meth c Qf G n0 a0 ad CT ST H locs cells slots lr hF hR hT hn ha hJ hS hc hlv hw hu
  have hq : q < h.1 := oks_1 (oks_t hu)
  have hi := ofI_in (oks_1 hu) h0 h1
  have hcl : (Int32.ofInt i).toNatClampNeg = i.toNat := ofI_clamp (oks_1 hu) h0
  have hii : ((i.toNat : Nat) : Int) = i := by omega
  have hok : okv h.1 (vI x) := by rw [← hv]; exact hJ.2.2.1 q hq i
  have K := kk p l e R s m args below meth c Qf G n0 a0 ad CT ST H locs cells slots lr hF hR hT hn ha hJ hS hc hlv hw (oks_cons hok (oks_t (oks_t hu)))
  show W p l e R s m args below meth c H locs cells slots Qf (F0 m pc lr (.int (Int32.ofInt i) :: .ref (ad q) :: st.map (trv ad)))
  by_cases hk : q < k0
  · exact va_tz hF.1 hF.2.1 (jc_arr hF.2.2.2.2.2.2.2.2.2.2.1 hF.2.2.2.2.2.2.2.2.2.2.2.1 hJ hk ht (by decide)) hS hi (by rw [hcl]; show trv ad ((h.2 q).2.2 ((i.toNat : Nat) : Int)) = _; rw [hii, hv]) hd K
  · have he1 := wsOf_at (G := G) (ad := ad) (h := h) (q := q) (by omega) hq
    rw [toE_arr ht (by decide), toA_i (by decide)] at he1
    refine va_zald hF.1 hF.2.1 hF.2.2.2.2.2.2.2.2.2.1.1 hJ.2.2.2.1 _ 2 he1 (jtys_at (by decide)) hi hd ?_
    rw [hcl, hii, hv]
    exact K
theorem JW.saload {i x : Int} {q : Nat} (hd : decode M.2.1 pc = .ok (.saload, 1)) (ht : (h.2 q).1 = 103) (h0 : 0 ≤ i) (h1 : i < (h.2 q).2.1) (hv : (h.2 q).2.2 i = vI x) (kk : JW M d P X kc ks (pc + 1) ls (vI x :: st) h) : JW M d P X kc ks pc ls (vI i :: vR q :: st) h := by
  intro p l e R s m args below meth c Qf G n0 a0 ad CT ST H locs cells slots lr hF hR hT hn ha hJ hS hc hlv hw hu
  have hq : q < h.1 := oks_1 (oks_t hu)
  have hi := ofI_in (oks_1 hu) h0 h1
  have hcl : (Int32.ofInt i).toNatClampNeg = i.toNat := ofI_clamp (oks_1 hu) h0
  have hii : ((i.toNat : Nat) : Int) = i := by omega
  have hok : okv h.1 (vI x) := by rw [← hv]; exact hJ.2.2.1 q hq i
  have K := kk p l e R s m args below meth c Qf G n0 a0 ad CT ST H locs cells slots lr hF hR hT hn ha hJ hS hc hlv hw (oks_cons hok (oks_t (oks_t hu)))
  show W p l e R s m args below meth c H locs cells slots Qf (F0 m pc lr (.int (Int32.ofInt i) :: .ref (ad q) :: st.map (trv ad)))
  by_cases hk : q < k0
  · exact va_ts hF.1 hF.2.1 (jc_arr hF.2.2.2.2.2.2.2.2.2.2.1 hF.2.2.2.2.2.2.2.2.2.2.2.1 hJ hk ht (by decide)) hS hi (by rw [hcl]; show trv ad ((h.2 q).2.2 ((i.toNat : Nat) : Int)) = _; rw [hii, hv]) hd K
  · have he1 := wsOf_at (G := G) (ad := ad) (h := h) (q := q) (by omega) hq
    rw [toE_arr ht (by decide), toA_i (by decide)] at he1
    refine va_sald hF.1 hF.2.1 hF.2.2.2.2.2.2.2.2.2.1.1 hJ.2.2.2.1 _ 3 he1 (jtys_at (by decide)) hi hd ?_
    rw [hcl, hii, hv]
    exact K
theorem JW.laload {i x : Int} {q : Nat} (hd : decode M.2.1 pc = .ok (.laload, 1)) (ht : (h.2 q).1 = 104) (h0 : 0 ≤ i) (h1 : i < (h.2 q).2.1) (hv : (h.2 q).2.2 i = vL x) (kk : JW M d P X kc ks (pc + 1) ls (vL x :: st) h) : JW M d P X kc ks pc ls (vI i :: vR q :: st) h := by
  intro p l e R s m args below meth c Qf G n0 a0 ad CT ST H locs cells slots lr hF hR hT hn ha hJ hS hc hlv hw hu
  have hq : q < h.1 := oks_1 (oks_t hu)
  have hi := ofI_in (oks_1 hu) h0 h1
  have hcl : (Int32.ofInt i).toNatClampNeg = i.toNat := ofI_clamp (oks_1 hu) h0
  have hii : ((i.toNat : Nat) : Int) = i := by omega
  have hok : okv h.1 (vL x) := by rw [← hv]; exact hJ.2.2.1 q hq i
  have K := kk p l e R s m args below meth c Qf G n0 a0 ad CT ST H locs cells slots lr hF hR hT hn ha hJ hS hc hlv hw (oks_cons hok (oks_t (oks_t hu)))
  show W p l e R s m args below meth c H locs cells slots Qf (F0 m pc lr (.int (Int32.ofInt i) :: .ref (ad q) :: st.map (trv ad)))
  by_cases hk : q < k0
  · exact va_tl hF.1 hF.2.1 (jc_arr hF.2.2.2.2.2.2.2.2.2.2.1 hF.2.2.2.2.2.2.2.2.2.2.2.1 hJ hk ht (by decide)) hS hi (by rw [hcl]; show trv ad ((h.2 q).2.2 ((i.toNat : Nat) : Int)) = _; rw [hii, hv]) hd K
  · have he1 := wsOf_at (G := G) (ad := ad) (h := h) (q := q) (by omega) hq
    rw [toE_arr ht (by decide), toA_l] at he1
    refine va_lald hF.1 hF.2.1 hF.2.2.2.2.2.2.2.2.2.1.1 hJ.2.2.2.1 _ 4 he1 (jtys_at (by decide)) hi hd ?_
    rw [hcl, hii, hv]
    exact K
theorem JW.aaload {i : Int} {q t : Nat} {r : Option Nat} (hd : decode M.2.1 pc = .ok (.aaload, 1)) (ht : (h.2 q).1 = t) (ht1 : 105 ≤ t) (ht2 : q < k0 ∨ t < 110) (h0 : 0 ≤ i) (h1 : i < (h.2 q).2.1) (hv : (h.2 q).2.2 i = Sum.inr r) (kk : JW M d P X kc ks (pc + 1) ls (Sum.inr r :: st) h) : JW M d P X kc ks pc ls (vI i :: vR q :: st) h := by
  intro p l e R s m args below meth c Qf G n0 a0 ad CT ST H locs cells slots lr hF hR hT hn ha hJ hS hc hlv hw hu
  have hq : q < h.1 := oks_1 (oks_t hu)
  have hi := ofI_in (oks_1 hu) h0 h1
  have hcl : (Int32.ofInt i).toNatClampNeg = i.toNat := ofI_clamp (oks_1 hu) h0
  have hii : ((i.toNat : Nat) : Int) = i := by omega
  have hok : okv h.1 (Sum.inr r) := by rw [← hv]; exact hJ.2.2.1 q hq i
  have K := kk p l e R s m args below meth c Qf G n0 a0 ad CT ST H locs cells slots lr hF hR hT hn ha hJ hS hc hlv hw (oks_cons hok (oks_t (oks_t hu)))
  obtain ⟨C, hC⟩ := jat_obj (i := t - 100) (by omega)
  show W p l e R s m args below meth c H locs cells slots Qf (F0 m pc lr (.int (Int32.ofInt i) :: .ref (ad q) :: st.map (trv ad)))
  by_cases hk : q < k0
  · have h9 := jc_arr hF.2.2.2.2.2.2.2.2.2.2.1 hF.2.2.2.2.2.2.2.2.2.2.2.1 hJ hk ht (by omega)
    rw [hC] at h9
    exact vb_tq hF.1 hF.2.1 h9 hS hi (by rw [hcl]; show trv ad ((h.2 q).2.2 ((i.toNat : Nat) : Int)) = _; rw [hii, hv]) hd K
  · have he1 := wsOf_at (G := G) (ad := ad) (h := h) (q := q) (by omega) hq
    rw [toE_arr ht (by omega), toA_r (by omega)] at he1
    have h9 := jtys_at (G := G) (i := t - 100) (by omega)
    rw [hC] at h9
    refine va_aldq hF.1 hF.2.1 hF.2.2.2.2.2.2.2.2.2.1.1 hJ.2.2.2.1 _ _ he1 h9 hi hd ?_
    rw [hcl, hii, hv]
    have e9 : va_rf (kR ad (Sum.inr r)) = trv ad (Sum.inr r) := by cases r <;> rfl
    rw [e9]
    exact K
theorem JW.iastore {i x : Int} {q : Nat} {h' : AH} (hd : decode M.2.1 pc = .ok (.iastore, 1)) (hk : k0 ≤ q) (ht : (h.2 q).1 = 100) (h0 : 0 ≤ i) (h1 : i < (h.2 q).2.1) (hh : hset h q i (vI x) = h') (kk : JW M d P X kc ks (pc + 1) ls st h') : JW M d P X kc ks pc ls (vI x :: vI i :: vR q :: st) h := by
  intro p l e R s m args below meth c Qf G n0 a0 ad CT ST H locs cells slots lr hF hR hT hn ha hJ hS hc hlv hw hu
  subst hh
  have hq : q < h.1 := oks_1 (oks_t (oks_t hu))
  have hi := ofI_in (oks_1 (oks_t hu)) h0 h1
  have hcl : (Int32.ofInt i).toNatClampNeg = i.toNat := ofI_clamp (oks_1 (oks_t hu)) h0
  have hok2 : okc h.1 ((h.2 q).1, (h.2 q).2.1, fun j => if j = i then vI x else (h.2 q).2.2 j) := okc_set (hJ.2.2.1 q hq) (oks_1 hu)
  have he1 := wsOf_at (G := G) (ad := ad) (h := h) (q := q) hk hq
  rw [toE_arr ht (by decide), toA_i (by decide)] at he1
  show W p l e R s m args below meth c H locs cells slots Qf (F0 m pc lr (.int (Int32.ofInt x) :: .int (Int32.ofInt i) :: .ref (ad q) :: st.map (trv ad)))
  refine va_iast hF.1 hF.2.1 hF.2.2.2.2.2.2.2.2.2.1.1 hJ.2.2.2.1 hJ.2.2.2.2 hS _ 0 he1 (jtys_at (by decide)) hi hd (fun H1 locs1 hP hD hS1 => ?_)
  rw [hcl] at hP hD
  refine kk p l e R s m args below meth c Qf G n0 a0 ad CT ST H1 locs1 cells slots lr hF hR hT hn ha (hJ.upd hk hok2 ?_ hq hP hD) hS1 hc hlv hw (oks_t (oks_t (oks_t hu)))
  refine (toE_arr (t := 100) (c := ((h.2 q).1, (h.2 q).2.1, fun j => if j = i then vI x else (h.2 q).2.2 j)) ht (by decide)).trans ?_
  rw [toA_i (by decide), (upd_i (v := Int32.ofInt x) h0 rfl)]
theorem JW.bastore {i x : Int} {q : Nat} {h' : AH} (hd : decode M.2.1 pc = .ok (.bastore, 1)) (hk : k0 ≤ q) (ht : (h.2 q).1 = 101) (h0 : 0 ≤ i) (h1 : i < (h.2 q).2.1) (hh : hset h q i (vI (jb8 x)) = h') (kk : JW M d P X kc ks (pc + 1) ls st h') : JW M d P X kc ks pc ls (vI x :: vI i :: vR q :: st) h := by
  intro p l e R s m args below meth c Qf G n0 a0 ad CT ST H locs cells slots lr hF hR hT hn ha hJ hS hc hlv hw hu
  subst hh
  have hq : q < h.1 := oks_1 (oks_t (oks_t hu))
  have hi := ofI_in (oks_1 (oks_t hu)) h0 h1
  have hcl : (Int32.ofInt i).toNatClampNeg = i.toNat := ofI_clamp (oks_1 (oks_t hu)) h0
  have hok2 : okc h.1 ((h.2 q).1, (h.2 q).2.1, fun j => if j = i then vI (jb8 x) else (h.2 q).2.2 j) := okc_set (hJ.2.2.1 q hq) (okI_jb8 x)
  have he1 := wsOf_at (G := G) (ad := ad) (h := h) (q := q) hk hq
  rw [toE_arr ht (by decide), toA_i (by decide)] at he1
  show W p l e R s m args below meth c H locs cells slots Qf (F0 m pc lr (.int (Int32.ofInt x) :: .int (Int32.ofInt i) :: .ref (ad q) :: st.map (trv ad)))
  refine va_bast hF.1 hF.2.1 hF.2.2.2.2.2.2.2.2.2.1.1 hJ.2.2.2.1 hJ.2.2.2.2 hS _ 1 he1 (jtys_at (by decide)) hi hd (fun H1 locs1 hP hD hS1 => ?_)
  rw [hcl] at hP hD
  refine kk p l e R s m args below meth c Qf G n0 a0 ad CT ST H1 locs1 cells slots lr hF hR hT hn ha (hJ.upd hk hok2 ?_ hq hP hD) hS1 hc hlv hw (oks_t (oks_t (oks_t hu)))
  refine (toE_arr (t := 101) (c := ((h.2 q).1, (h.2 q).2.1, fun j => if j = i then vI (jb8 x) else (h.2 q).2.2 j)) ht (by decide)).trans ?_
  rw [toA_i (by decide), (upd_i (v := vp_nar .byte (Int32.ofInt x)) h0 (by rw [vp_nar_byte]; exact (of_toI _).symm))]
theorem JW.zastore {i x : Int} {q : Nat} {h' : AH} (hd : decode M.2.1 pc = .ok (.bastore, 1)) (hk : k0 ≤ q) (ht : (h.2 q).1 = 102) (h0 : 0 ≤ i) (h1 : i < (h.2 q).2.1) (hx : x = 0 ∨ x = 1) (hh : hset h q i (vI x) = h') (kk : JW M d P X kc ks (pc + 1) ls st h') : JW M d P X kc ks pc ls (vI x :: vI i :: vR q :: st) h := by
  intro p l e R s m args below meth c Qf G n0 a0 ad CT ST H locs cells slots lr hF hR hT hn ha hJ hS hc hlv hw hu
  subst hh
  have hq : q < h.1 := oks_1 (oks_t (oks_t hu))
  have hi := ofI_in (oks_1 (oks_t hu)) h0 h1
  have hcl : (Int32.ofInt i).toNatClampNeg = i.toNat := ofI_clamp (oks_1 (oks_t hu)) h0
  have hok2 : okc h.1 ((h.2 q).1, (h.2 q).2.1, fun j => if j = i then vI x else (h.2 q).2.2 j) := okc_set (hJ.2.2.1 q hq) (oks_1 hu)
  have he1 := wsOf_at (G := G) (ad := ad) (h := h) (q := q) hk hq
  rw [toE_arr ht (by decide), toA_i (by decide)] at he1
  show W p l e R s m args below meth c H locs cells slots Qf (F0 m pc lr (.int (Int32.ofInt x) :: .int (Int32.ofInt i) :: .ref (ad q) :: st.map (trv ad)))
  refine va_zast hF.1 hF.2.1 hF.2.2.2.2.2.2.2.2.2.1.1 hJ.2.2.2.1 hJ.2.2.2.2 hS _ 2 he1 (jtys_at (by decide)) hi hd (fun H1 locs1 hP hD hS1 => ?_)
  rw [hcl] at hP hD
  refine kk p l e R s m args below meth c Qf G n0 a0 ad CT ST H1 locs1 cells slots lr hF hR hT hn ha (hJ.upd hk hok2 ?_ hq hP hD) hS1 hc hlv hw (oks_t (oks_t (oks_t hu)))
  refine (toE_arr (t := 102) (c := ((h.2 q).1, (h.2 q).2.1, fun j => if j = i then vI x else (h.2 q).2.2 j)) ht (by decide)).trans ?_
  rw [toA_i (by decide), (upd_i (v := vp_nar .boolean (Int32.ofInt x)) h0 (by rcases hx with rfl | rfl <;> rfl))]
theorem JW.sastore {i x : Int} {q : Nat} {h' : AH} (hd : decode M.2.1 pc = .ok (.sastore, 1)) (hk : k0 ≤ q) (ht : (h.2 q).1 = 103) (h0 : 0 ≤ i) (h1 : i < (h.2 q).2.1) (hh : hset h q i (vI (js16 x)) = h') (kk : JW M d P X kc ks (pc + 1) ls st h') : JW M d P X kc ks pc ls (vI x :: vI i :: vR q :: st) h := by
  intro p l e R s m args below meth c Qf G n0 a0 ad CT ST H locs cells slots lr hF hR hT hn ha hJ hS hc hlv hw hu
  subst hh
  have hq : q < h.1 := oks_1 (oks_t (oks_t hu))
  have hi := ofI_in (oks_1 (oks_t hu)) h0 h1
  have hcl : (Int32.ofInt i).toNatClampNeg = i.toNat := ofI_clamp (oks_1 (oks_t hu)) h0
  have hok2 : okc h.1 ((h.2 q).1, (h.2 q).2.1, fun j => if j = i then vI (js16 x) else (h.2 q).2.2 j) := okc_set (hJ.2.2.1 q hq) (okI_js16 x)
  have he1 := wsOf_at (G := G) (ad := ad) (h := h) (q := q) hk hq
  rw [toE_arr ht (by decide), toA_i (by decide)] at he1
  show W p l e R s m args below meth c H locs cells slots Qf (F0 m pc lr (.int (Int32.ofInt x) :: .int (Int32.ofInt i) :: .ref (ad q) :: st.map (trv ad)))
  refine va_sast hF.1 hF.2.1 hF.2.2.2.2.2.2.2.2.2.1.1 hJ.2.2.2.1 hJ.2.2.2.2 hS _ 3 he1 (jtys_at (by decide)) hi hd (fun H1 locs1 hP hD hS1 => ?_)
  rw [hcl] at hP hD
  refine kk p l e R s m args below meth c Qf G n0 a0 ad CT ST H1 locs1 cells slots lr hF hR hT hn ha (hJ.upd hk hok2 ?_ hq hP hD) hS1 hc hlv hw (oks_t (oks_t (oks_t hu)))
  refine (toE_arr (t := 103) (c := ((h.2 q).1, (h.2 q).2.1, fun j => if j = i then vI (js16 x) else (h.2 q).2.2 j)) ht (by decide)).trans ?_
  rw [toA_i (by decide), (upd_i (v := vp_nar .short (Int32.ofInt x)) h0 (by rw [vp_nar_short]; exact (of_toI _).symm))]
theorem JW.lastore {i x : Int} {q : Nat} {h' : AH} (hd : decode M.2.1 pc = .ok (.lastore, 1)) (hk : k0 ≤ q) (ht : (h.2 q).1 = 104) (h0 : 0 ≤ i) (h1 : i < (h.2 q).2.1) (hh : hset h q i (vL x) = h') (kk : JW M d P X kc ks (pc + 1) ls st h') : JW M d P X kc ks pc ls (vL x :: vI i :: vR q :: st) h := by
  intro p l e R s m args below meth c Qf G n0 a0 ad CT ST H locs cells slots lr hF hR hT hn ha hJ hS hc hlv hw hu
  subst hh
  have hq : q < h.1 := oks_1 (oks_t (oks_t hu))
  have hi := ofI_in (oks_1 (oks_t hu)) h0 h1
  have hcl : (Int32.ofInt i).toNatClampNeg = i.toNat := ofI_clamp (oks_1 (oks_t hu)) h0
  have hok2 : okc h.1 ((h.2 q).1, (h.2 q).2.1, fun j => if j = i then vL x else (h.2 q).2.2 j) := okc_set (hJ.2.2.1 q hq) (oks_1 hu)
  have he1 := wsOf_at (G := G) (ad := ad) (h := h) (q := q) hk hq
  rw [toE_arr ht (by decide), toA_l] at he1
  show W p l e R s m args below meth c H locs cells slots Qf (F0 m pc lr (.long (Int64.ofInt x) :: .int (Int32.ofInt i) :: .ref (ad q) :: st.map (trv ad)))
  refine va_last hF.1 hF.2.1 hF.2.2.2.2.2.2.2.2.2.1.1 hJ.2.2.2.1 hJ.2.2.2.2 hS _ 4 he1 (jtys_at (by decide)) hi hd (fun H1 locs1 hP hD hS1 => ?_)
  rw [hcl] at hP hD
  refine kk p l e R s m args below meth c Qf G n0 a0 ad CT ST H1 locs1 cells slots lr hF hR hT hn ha (hJ.upd hk hok2 ?_ hq hP hD) hS1 hc hlv hw (oks_t (oks_t (oks_t hu)))
  refine (toE_arr (t := 104) (c := ((h.2 q).1, (h.2 q).2.1, fun j => if j = i then vL x else (h.2 q).2.2 j)) ht (by decide)).trans ?_
  rw [toA_l, (upd_l h0)]
theorem JW.alen {q t n : Nat} (hd : decode M.2.1 pc = .ok (.arraylength, 1)) (ht : (h.2 q).1 = t) (ht1 : 100 ≤ t) (ht2 : q < k0 ∨ t < 110) (hl : (h.2 q).2.1 = n) (hn2 : n < 2147483648) (kk : JW M d P X kc ks (pc + 1) ls (vI n :: st) h) : JW M d P X kc ks pc ls (vR q :: st) h := by
  intro p l e R s m args below meth c Qf G n0 a0 ad CT ST H locs cells slots lr hF hR hT hn ha hJ hS hc hlv hw hu
  have hq : q < h.1 := oks_1 hu
  have K := kk p l e R s m args below meth c Qf G n0 a0 ad CT ST H locs cells slots lr hF hR hT hn ha hJ hS hc hlv hw (oks_cons ⟨by omega, by omega⟩ (oks_t hu))
  by_cases hk : q < k0
  · exact va_tlen hF.1 hF.2.1 (jc_arr hF.2.2.2.2.2.2.2.2.2.2.1 hF.2.2.2.2.2.2.2.2.2.2.2.1 hJ hk ht ht1) hS (by rw [hl]; exact ofI_ofNat n) hd K
  · have he1 := wsOf_at (G := G) (ad := ad) (h := h) (q := q) (by omega) hq
    rw [toE_arr ht ht1] at he1
    exact va_alen hF.1 hF.2.1 hF.2.2.2.2.2.2.2.2.2.1.1 hJ.2.2.2.1 _ _ he1 (jtys_at (i := t - 100) (by omega)) (by rw [← ofI_ofNat n, ← hl]) hd K
theorem JHp.push {G : JG} {ad : Nat → Nat} {H H1 : Heap} {a : Nat} {c : AC} {E : va_E} (hJ : JHp G ad h H) (hc : okc (h.1 + 1) c) (hE : toE (gA G) (fun z => if z = h.1 then a else ad z) c = E)
    (hP : va_P (gD G) jcl (wsOf G ad h ++ [(a, E)]) H1) (hD : va_D (jA G) (wsOf G ad h ++ [(a, E)])) : JHp G (fun z => if z = h.1 then a else ad z) (hpush h c) H1 := by
  subst hE
  have hx : ∀ q, q < h.1 → (fun z => if z = h.1 then a else ad z) q = ad q := fun q hq => if_neg (by omega)
  have e := wsOf_push (G := G) (a := ad) (b := fun z => if z = h.1 then a else ad z) (c := c) hJ.1 hJ.2.2.1 hx
  rw [if_pos rfl] at e
  rw [← e] at hP hD
  have hk := hJ.1
  refine ⟨Nat.le_succ_of_le hk, fun z hz => ⟨?_, ?_⟩, okh_push hJ.2.2.1 hc, hP, hD⟩
  · rw [hx z (by omega)]; exact (hJ.2.1 z hz).1
  · rw [hpush_n h c (show ¬ z = h.1 by omega)]; exact (hJ.2.1 z hz).2
/-- what a new thing leaves of the caller's state -/
theorem ext_push {n0 : Nat} {a0 ad : Nat → Nat} {a : Nat} (hn : n0 ≤ h.1) (ha : ∀ q, q < n0 → ad q = a0 q) : ∀ q, q < n0 → (fun z => if z = h.1 then a else ad z) q = a0 q := fun q hq => by
  show (if q = h.1 then a else ad q) = a0 q
  rw [if_neg (by omega)]; exact ha q hq
theorem lv_push {lr : Array Slot} {nL : Nat} {ad : Nat → Nat} {a : Nat} {ls : LV} (hw : okls h.1 ls) (hlv : lv_has lr nL (trl ad ls)) : lv_has lr nL (trl (fun z => if z = h.1 then a else ad z) ls) := by
  rw [trl_ext (n := h.1) (a := ad) (fun q hq => if_neg (by omega)) hw]; exact hlv
theorem st_push {ad : Nat → Nat} {a : Nat} {st : List AV} (hu : oks h.1 st) : st.map (trv (fun z => if z = h.1 then a else ad z)) = st.map (trv ad) := trs_ext (n := h.1) (a := ad) (fun q hq => if_neg (by omega)) hu
/-- the array that 'newarray' makes -/
def jnew (t : Nat) (n : Nat) : AC := (t, n, fun _ => if t < 104 then vI 0 else if t = 104 then vL 0 else vN)
theorem jnew_ok (k t n : Nat) : okc k (jnew t n) := by
  intro j
  show okv k (if t < 104 then vI 0 else if t = 104 then vL 0 else vN)
  split
  · exact ⟨by omega, by omega⟩
  · split
    · exact ⟨by omega, by omega⟩
    · trivial
def jaty : ArrayType → Nat
  | .int => 100
  | .byte => 101
  | .boolean => 102
  | .short => 103
  | .long => 104
  | _ => 0
theorem JW.newarr {atype : ArrayType} {t : Nat} {n : Int} {h' : AH} {kc' ks' : Nat} (hd : decode M.2.1 pc = .ok (.newarray atype, 2)) (ht : jaty atype = t) (ht1 : 100 ≤ t) (hw1 : Cond.arrayClass (newarray.typeOf atype) ∈ lw_all) (h0 : 0 ≤ n) (h1 : n ≤ 60000000) (hk1 : kc' + 1 ≤ kc) (hk2 : ks' + n.toNat ≤ ks) (hh : hpush h (jnew t n.toNat) = h') (kk : JW M d P X kc' ks' (pc + 2) ls (vR h.1 :: st) h') : JW M d P X kc ks pc ls (vI n :: st) h := by
  intro p l e R s m args below meth c Qf G n0 a0 ad CT ST H locs cells slots lr hF hR hT hn ha hJ hS hc hlv hw hu
  subst hh; subst ht
  have hts := hF.2.2.2.2.2.2.1
  have hty : newarray.typeOf atype = jat (jaty atype - 100) ∧ jaty atype - 100 < 5 := by cases atype <;> first | exact ⟨rfl, by decide⟩ | exact absurd ht1 (by decide)
  have hcl : (Int32.ofInt n).toNatClampNeg = n.toNat := ofI_clamp (oks_1 hu) h0
  have hz : gz G ≤ s.heap.size := hF.2.2.2.2.2.2.2.2.2.2.2.2.1
  have hbytes : n.toNat * componentBytes (jat (jaty atype - 100)) ≤ 536870912 := by cases atype <;> first | exact absurd ht1 (by decide) | (show n.toNat * _ ≤ _; simp only [jaty, jat, componentBytes]; omega)
  refine va_newa (a0 := (n.toNat, toA ad (jaty atype) (jnew (jaty atype) n.toNat).2.2)) hF.1 hF.2.1 (hts _ hw1) hty.1 hF.2.2.2.2.2.2.2.2.2.1.1 hJ.2.2.2.1 hJ.2.2.2.2 hS (fun q hq => Nat.le_trans hz hq) ?_ (fun z => absurd ((ofI_lt0 (oks_1 hu)).mp z) (by omega)) hcl hbytes (by omega) (by omega) hd (fun a cA H1 hK1 hP hD hS1 => ?_)
  · intro cA
    cases atype <;> first | exact absurd ht1 (by decide) | rfl
  · have hcA : cA = gA G (jaty atype - 100) := by
      have e1 := (hK1.2 (jtys G).length (cA, jat (jaty atype - 100)) (by rw [List.getElem?_append_right (Nat.le_refl _), Nat.sub_self]; rfl)).2
      have e2 := (hF.2.2.2.2.2.2.2.2.2.1.1.2 _ _ (jtys_at (G := G) (i := jaty atype - 100) (by omega))).2
      revert e1 e2
      cases atype <;> first | exact absurd ht1 (by decide) | (intro e1 e2; exact Option.some.inj (e1.symm.trans e2))
    subst hcA
    have hx : ∀ q, q < h.1 → (fun z => if z = h.1 then a else ad z) q = ad q := fun q hq => if_neg (by omega)
    have hE : toE (gA G) (fun z => if z = h.1 then a else ad z) (jnew (jaty atype) n.toNat) = .inl (gA G (jaty atype - 100), n.toNat, toA ad (jaty atype) (jnew (jaty atype) n.toNat).2.2) := by
      rw [toE_arr (t := jaty atype) rfl ht1, toA_ext (n := 0) (a := ad) (fun q hq => absurd hq (Nat.not_lt_zero _)) (jnew_ok 0 _ n.toNat)]
      rfl
    have e9 : trv (fun z => if z = h.1 then a else ad z) (vR h.1) = .ref a := by show Value.ref (if h.1 = h.1 then a else ad h.1) = _; rw [if_pos rfl]
    have K := kk p l e R s m args below meth c Qf G n0 a0 (fun z => if z = h.1 then a else ad z) CT ST H1 locs (cells + 1) (slots + n.toNat) lr hF hR hT (Nat.le_succ_of_le hn) (ext_push hn ha) (hJ.push (jnew_ok _ _ _) hE hP hD) hS1 ⟨by omega, by omega, hc.2.2⟩ (lv_push hw hlv) (okls_mono (Nat.le_succ _) hw) (oks_cons (Nat.lt_succ_self _) (oks_mono (Nat.le_succ _) (oks_t hu)))
    rw [List.map_cons, e9, st_push (oks_t hu)] at K
    exact K
end
