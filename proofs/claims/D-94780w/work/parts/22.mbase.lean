/-! what the printed blocks lean on -/
set_option maxRecDepth 100000
def apick (ls : LV) : List Nat → LV
  | [] => []
  | i :: r => match alook ls i with
    | some v => (i, v) :: apick ls r
    | none => apick ls r
theorem apick_mem {ls : LV} {q : Nat × AV} : ∀ {is : List Nat}, q ∈ apick ls is → q ∈ ls
  | [], h => by cases h
  | i :: r, h => by
    unfold apick at h
    split at h
    · rename_i v e
      rcases List.mem_cons.mp h with rfl | h
      · exact alook_mem e
      · exact apick_mem h
    · exact apick_mem h
def bI (p : Prop) [Decidable p] : Int := if p then 1 else 0
theorem bI_01 (p : Prop) [Decidable p] : bI p = 0 ∨ bI p = 1 := by
  unfold bI
  split
  · exact Or.inr rfl
  · exact Or.inl rfl
theorem bI_0 {p : Prop} [Decidable p] : bI p = 0 ↔ ¬ p := by
  unfold bI
  split
  · rename_i h; exact ⟨fun e => absurd e (by decide), fun e => absurd h e⟩
  · rename_i h; exact ⟨fun _ => h, fun _ => rfl⟩
theorem bI_n {p : Prop} [Decidable p] : ¬ bI p = 0 ↔ p := by
  rw [bI_0]; exact Classical.not_not
theorem bI_c {p q : Prop} [Decidable p] [Decidable q] (h : p ↔ q) : bI p = bI q := by
  unfold bI
  by_cases w : p
  · rw [if_pos w, if_pos (h.mp w)]
  · rw [if_neg w, if_neg (fun v => w (h.mpr v))]
theorem bI_t {p : Prop} [Decidable p] (h : p) : bI p = 1 := if_pos h
theorem bI_f {p : Prop} [Decidable p] (h : ¬ p) : bI p = 0 := if_neg h
section
variable {M : MI} {d : Nat} {P : Option AV → AH → Prop} {X : Nat → Nat → AH → Prop} {kc ks pc : Nat} {ls : LV} {st : List AV} {h : AH}
theorem JW.pick {ls' : LV} (is : List Nat) (hs : apick ls is = ls') (k : JW M d P X kc ks pc ls' st h) : JW M d P X kc ks pc ls st h := JW.locs (fun q hq => apick_mem (by rw [hs]; exact hq)) k
theorem JW.zreturn {x : Int} (hd : decode M.2.1 pc = .ok (.ireturn, 1)) (hr : M.2.2.2.1 = some .boolean) (hx : x = 0 ∨ x = 1) (hp : P (some (vI x)) h) : JW M d P X kc ks pc ls [vI x] h :=
  JW.ireturn hd hr (by rcases hx with rfl | rfl <;> rfl) hp
end
theorem sA_s (s : MS) (j : Nat) (f : Int → Int) : (sA s j f).2 j = f := if_pos rfl
theorem sA_n (s : MS) {j i : Nat} (f : Int → Int) (h : i ≠ j) : (sA s j f).2 i = s.2 i := if_neg h
theorem sA_1 (s : MS) (j : Nat) (f : Int → Int) : (sA s j f).1 = s.1 := rfl
theorem sS_2 (s : MS) (k : Nat) (v : Int) : (sS s k v).2 = s.2 := rfl
theorem sS_s (s : MS) (k : Nat) (v : Int) : (sS s k v).1 k = v := if_pos rfl
theorem sS_n (s : MS) {k i : Nat} (v : Int) (h : i ≠ k) : (sS s k v).1 i = s.1 i := if_neg h
theorem sA_A (s : MS) (j : Nat) (f g : Int → Int) : sA (sA s j f) j g = sA s j g := by
  apply Prod.ext
  · rfl
  · funext z
    show (if z = j then g else if z = j then f else s.2 z) = if z = j then g else s.2 z
    by_cases h : z = j
    · rw [if_pos h, if_pos h]
    · rw [if_neg h, if_neg h, if_neg h]
theorem sS_S (s : MS) (k : Nat) (v w : Int) : sS (sS s k v) k w = sS s k w := by
  apply Prod.ext
  · funext z
    show (if z = k then w else if z = k then v else s.1 z) = if z = k then w else s.1 z
    by_cases h : z = k
    · rw [if_pos h, if_pos h]
    · rw [if_neg h, if_neg h, if_neg h]
  · rfl
theorem sA_S (s : MS) (j k : Nat) (f : Int → Int) (v : Int) : sA (sS s k v) j f = sS (sA s j f) k v := rfl
theorem sA_id (s : MS) (j : Nat) : sA s j (s.2 j) = s := by
  apply Prod.ext
  · rfl
  · funext z
    show (if z = j then s.2 j else s.2 z) = s.2 z
    by_cases h : z = j
    · rw [if_pos h, h]
    · rw [if_neg h]
theorem sS_id (s : MS) (k : Nat) : sS s k (s.1 k) = s := by
  apply Prod.ext
  · funext z
    show (if z = k then s.1 k else s.1 z) = s.1 z
    by_cases h : z = k
    · rw [if_pos h, h]
    · rw [if_neg h]
  · rfl
theorem sA_c {s t : MS} {j : Nat} {f g : Int → Int} (e : s = t) (h : f = g) : sA s j f = sA t j g := by rw [e, h]
theorem sS_c {s t : MS} {k : Nat} {v w : Int} (e : s = t) (h : v = w) : sS s k v = sS t k w := by rw [e, h]
theorem rI_c {v w : Int} (h : v = w) : some (vI v) = some (vI w) := by rw [h]
theorem rL_c {v w : Int} (h : v = w) : some (vL v) = some (vL w) := by rw [h]
theorem upI_s (f : Int → Int) (i v : Int) : upI f i v i = v := if_pos rfl
theorem upI_n (f : Int → Int) {i j : Int} (v : Int) (h : j ≠ i) : upI f i v j = f j := if_neg h
theorem sA_lt (s : MS) (i j : Nat) (f g : Int → Int) (h : i < j) : sA (sA s j f) i g = sA (sA s i g) j (id f) := by
  apply Prod.ext
  · rfl
  · funext z
    rw [id_eq]
    show (if z = i then g else if z = j then f else s.2 z) = if z = j then f else if z = i then g else s.2 z
    by_cases h1 : z = i
    · rw [if_pos h1, if_neg (by omega), if_pos h1]
    · rw [if_neg h1]
      by_cases h2 : z = j
      · rw [if_pos h2, if_pos h2]
      · rw [if_neg h2, if_neg h2, if_neg h1]
theorem sS_lt (s : MS) (i j : Nat) (v w : Int) (h : i < j) : sS (sS s j v) i w = sS (sS s i w) j (id v) := by
  apply Prod.ext
  · funext z
    rw [id_eq]
    show (if z = i then w else if z = j then v else s.1 z) = if z = j then v else if z = i then w else s.1 z
    by_cases h1 : z = i
    · rw [if_pos h1, if_neg (by omega), if_pos h1]
    · rw [if_neg h1]
      by_cases h2 : z = j
      · rw [if_pos h2, if_pos h2]
      · rw [if_neg h2, if_neg h2, if_neg h1]
  · rfl
/-- the judgement inside a method of the reference -/
abbrev MW (M : MI) (d : Nat) (Q : Option AV → MS → Prop) (b : AH) (pc : Nat) (ls : LV) (st : List AV) (s : MS) : Prop := JW M d (fun v h' => ∃ s', h' = mput b s' ∧ Q v s') (fun _ _ _ => False) 0 0 pc ls st (mput b s)
theorem JW.steq {M : MI} {d : Nat} {P : Option AV → AH → Prop} {X : Nat → Nat → AH → Prop} {kc ks pc : Nat} {ls : LV} {st : List AV} {b : AH} {s1 s2 : MS} (h : s1 = s2) (k : JW M d P X kc ks pc ls st (mput b s2)) : JW M d P X kc ks pc ls st (mput b s1) := by rw [h]; exact k
/-- a loop that counts up -/
theorem loopUp {α : Type} (W : Int → α → Prop) (I : Int → α → Prop) (N : Int) (hs : ∀ x a, x < N → I x a → (∀ a', I (x + 1) a' → W (x + 1) a') → W x a) (hx : ∀ x a, N ≤ x → I x a → W x a) : ∀ x a, I x a → W x a := by
  have key : ∀ (n : Nat) (x : Int) (a : α), (N - x).toNat = n → I x a → W x a := by
    intro n
    induction n with
    | zero => intro x a hn hI; exact hx x a (by omega) hI
    | succ n ih => intro x a hn hI; exact hs x a (by omega) hI (fun a' hI' => ih (x + 1) a' (by omega) hI')
  intro x a hI
  exact key _ x a rfl hI
/-- a loop by a measure -/
theorem loopM {α : Type} (W : α → Prop) (I : α → Prop) (μ : α → Nat) (hs : ∀ a, I a → (∀ a', I a' → μ a' < μ a → W a') → W a) : ∀ a, I a → W a := by
  have key : ∀ (n : Nat) (a : α), μ a < n → I a → W a := by
    intro n
    induction n with
    | zero => intro a hn; exact absurd hn (Nat.not_lt_zero _)
    | succ n ih => intro a hn hI; exact hs a hI (fun a' hI' hlt => ih a' (by omega) hI')
  intro a hI
  exact key _ a (Nat.lt_succ_self _) hI
def lex3 (a b c a' b' c' : Nat) : Prop := a < a' ∨ (a = a' ∧ (b < b' ∨ (b = b' ∧ c < c')))
theorem lex3_ind {P : Nat → Nat → Nat → Prop} (h : ∀ a b c, (∀ a' b' c', lex3 a' b' c' a b c → P a' b' c') → P a b c) : ∀ a b c, P a b c := by
  intro a
  induction a using Nat.strongRecOn with
  | _ a iha =>
    intro b
    induction b using Nat.strongRecOn with
    | _ b ihb =>
      intro c
      induction c using Nat.strongRecOn with
      | _ c ihc =>
        refine h a b c (fun a' b' c' hl => ?_)
        rcases hl with hl | ⟨rfl, hl | ⟨rfl, hl⟩⟩
        · exact iha a' hl b' c'
        · exact ihb b' hl c'
        · exact ihc c' hl
theorem jge {a b : Int} : 0 ≤ jcmp a b ↔ b ≤ a := by unfold jcmp; split <;> (try split) <;> omega
theorem jlt {a b : Int} : jcmp a b < 0 ↔ a < b := by unfold jcmp; split <;> (try split) <;> omega
theorem jgt {a b : Int} : 0 < jcmp a b ↔ b < a := by unfold jcmp; split <;> (try split) <;> omega
theorem jle {a b : Int} : jcmp a b ≤ 0 ↔ a ≤ b := by unfold jcmp; split <;> (try split) <;> omega
theorem jeq {a b : Int} : jcmp a b = 0 ↔ a = b := by unfold jcmp; split <;> (try split) <;> omega
