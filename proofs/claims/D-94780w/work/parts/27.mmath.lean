/-! the mathematics of goes -/
set_option maxRecDepth 100000
theorem thrS_s (h a : Int → Int) (x : Int) {k : Int} (hk : 0 ≤ k) : thrS h a x (k + 1).toNat = (wkp (thrS h a x k.toNat).1 (thrS h a x k.toNat).2 (a (2 * k)), wdo h (thrS h a x k.toNat).1 (thrS h a x k.toNat).2 (a (2 * k)) (a (2 * k + 1))) := by
  rw [show (k + 1).toNat = k.toNat + 1 by omega]
  show (wkp _ _ (a (2 * (k.toNat : Int))), wdo _ _ _ (a (2 * (k.toNat : Int))) (a (2 * (k.toNat : Int) + 1))) = _
  rw [show ((k.toNat : Nat) : Int) = k by omega]
theorem thrS_b {h a : Int → Int} {x : Int} (hx : 0 ≤ x ∧ x < h 2) : ∀ n : Nat, (0 ≤ (thrS h a x n).1 ∧ (thrS h a x n).1 < h 2) ∧ (0 ≤ (thrS h a x n).2 ∧ (thrS h a x n).2 < h 2)
  | 0 => ⟨hx, hx⟩
  | n + 1 => by
    have ih := thrS_b (a := a) hx n
    exact ⟨wkp_b ih.1 ih.2, wdo_b (by omega)⟩
/-- what is next of a number -/
noncomputable def nx (h a : Int → Int) (x : Int) : Int := (thrS h a x (h 3).toNat).2
theorem nx_b {h a : Int → Int} {x : Int} (h0 : 0 ≤ x) (h1 : x < h 2) : 0 ≤ nx h a x ∧ nx h a x < h 2 := (thrS_b ⟨h0, h1⟩ _).2
/-- a row filled up to a place -/
def lay (N : Int) (g f : Int → Int) : Int → Int := fun z => if 0 ≤ z ∧ z < N then g z else f z
theorem lay_at {N z : Int} {g f : Int → Int} (h0 : 0 ≤ z) (h1 : z < N) : lay N g f z = g z := if_pos ⟨h0, h1⟩
theorem lay_n {N z : Int} {g f : Int → Int} (h : ¬ (0 ≤ z ∧ z < N)) : lay N g f z = f z := if_neg h
theorem lay_0 {N : Int} (g f : Int → Int) (h : N ≤ 0) : lay N g f = f := by
  funext z; exact if_neg (by omega)
theorem lay_s {k : Int} (g f : Int → Int) (h : 0 ≤ k) {v : Int} (hv : v = g k) : upI (lay k g f) k v = lay (k + 1) g f := by
  funext z
  unfold upI lay
  by_cases e : z = k
  · subst e; rw [if_pos rfl, if_pos ⟨h, by omega⟩, hv]
  · rw [if_neg e]
    by_cases q : 0 ≤ z ∧ z < k
    · rw [if_pos q, if_pos (by omega)]
    · rw [if_neg q, if_neg (by omega)]
theorem lay_lay (N : Int) (g f f' : Int → Int) : lay N g (lay N f' f) = lay N g f := by
  funext z; unfold lay; split <;> rfl
/-- what is next of each number is laid out -/
def NXO (h a n : Int → Int) : Prop := ∀ x : Int, 0 ≤ x → x < h 2 → n x = nx h a x
theorem upto_s {p : Int → Int → Prop} {f : Int → Int} {k v : Int} (h : ∀ z : Int, 0 ≤ z → z < k → p z (f z)) (hv : p k v) : ∀ z : Int, 0 ≤ z → z < k + 1 → p z (upI f k v z) := by
  intro z h0 h1
  by_cases e : z = k
  · rw [e, upI_s]; exact hv
  · rw [upI_n _ _ e]; exact h z h0 (by omega)
