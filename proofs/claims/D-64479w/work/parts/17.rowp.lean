/-! PURE: rows of pairs by rising keys -/
abbrev Prs : Type := List (Int32 × Int64)
def srt (l : Prs) : Prop := l.Pairwise (fun x y => x.1 < y.1)
/-- how many first keys are below one -/
def blw (key : Int32) : Prs → Nat
  | [] => 0
  | q :: t => if q.1 < key then blw key t + 1 else 0
theorem blw_le {key : Int32} : ∀ {l : Prs}, blw key l ≤ l.length := by
  intro l
  induction l with
  | nil => exact Nat.le_refl _
  | cons q t ih =>
    unfold blw
    split
    · exact Nat.succ_le_succ ih
    · exact Nat.zero_le _
theorem blw_lt {key : Int32} : ∀ {l : Prs} {i : Nat} {q : Int32 × Int64}, i < blw key l → l[i]? = some q → q.1 < key := by
  intro l
  induction l with
  | nil => intro i q hi; cases hi
  | cons p t ih =>
    intro i q hi hq
    unfold blw at hi
    split at hi
    · next hp =>
      cases i with
      | zero => cases hq; exact hp
      | succ i => exact ih (by omega) hq
    · cases hi
theorem blw_ge {key : Int32} : ∀ {l : Prs} {q : Int32 × Int64}, l[blw key l]? = some q → ¬ q.1 < key := by
  intro l
  induction l with
  | nil => intro q hq; cases hq
  | cons p t ih =>
    intro q hq
    unfold blw at hq
    split at hq
    · exact ih hq
    · next hp => cases hq; exact hp
theorem blw_of {key : Int32} : ∀ {l : Prs} {r : Nat}, r ≤ l.length → (∀ i q, i < r → l[i]? = some q → q.1 < key) → (∀ q, l[r]? = some q → ¬ q.1 < key) → blw key l = r := by
  intro l
  induction l with
  | nil => intro r hr _ _; exact (Nat.le_zero.mp hr).symm
  | cons p t ih =>
    intro r hr h1 h2
    unfold blw
    cases r with
    | zero => rw [if_neg (h2 p rfl)]
    | succ r =>
      rw [if_pos (h1 0 p (by omega) rfl), ih (Nat.le_of_succ_le_succ hr) (fun i q hi hq => h1 (i + 1) q (by omega) hq) (fun q hq => h2 q hq)]
theorem srt_lt {l : Prs} (h : srt l) {i j : Nat} {p q : Int32 × Int64} (hij : i < j) (hi : l[i]? = some p) (hj : l[j]? = some q) : p.1 < q.1 := by
  obtain ⟨h1, e1⟩ := List.getElem?_eq_some_iff.mp hi
  obtain ⟨h2, e2⟩ := List.getElem?_eq_some_iff.mp hj
  have := List.pairwise_iff_getElem.mp h i j h1 h2 hij
  rw [e1, e2] at this
  exact this
theorem srt_ge {l : Prs} {key : Int32} (h : srt l) {i : Nat} {q : Int32 × Int64} (hi : blw key l ≤ i) (hq : l[i]? = some q) : ¬ q.1 < key := by
  intro hlt
  obtain ⟨h1, e1⟩ := List.getElem?_eq_some_iff.mp hq
  have hb : blw key l < l.length := by omega
  have hp : l[blw key l]? = some l[blw key l] := List.getElem?_eq_getElem hb
  have h2 := blw_ge hp
  rcases Nat.lt_or_ge (blw key l) i with h3 | h3
  · have := srt_lt h h3 hp hq
    rw [i_lt] at *
    omega
  · have : i = blw key l := by omega
    subst this
    rw [hp] at hq
    cases hq
    exact h2 hlt
/-- what a key has in a row -/
def lkp (l : Prs) (k : Int32) : Option Int64 := (l.find? (fun q => q.1 == k)).map (·.2)
/-- arrays that hold a list in their first places -/
theorem take_at {α β : Type} {xs : List α} {l : List β} {f : β → α} {j : Nat} {b : β} {z : α} (h : xs.take l.length = l.map f) (hb : l[j]? = some b) : xs.getD j z = f b := by
  have hj : j < l.length := (List.getElem?_eq_some_iff.mp hb).1
  have h1 : (xs.take l.length)[j]? = some (f b) := by rw [h, List.getElem?_map, hb]; rfl
  rw [List.getElem?_take, if_pos hj] at h1
  exact getD_of h1
theorem at_of {β : Type} {l : List β} {j : Nat} (h : j < l.length) : ∃ b, l[j]? = some b := ⟨_, List.getElem?_eq_getElem h⟩
theorem get_of_take {α β : Type} {xs : List α} {l : List β} {f : β → α} {j : Nat} {b : β} (h : xs.take l.length = l.map f) (hb : l[j]? = some b) : xs[j]? = some (f b) := by
  have hj : j < l.length := (List.getElem?_eq_some_iff.mp hb).1
  have h1 : (xs.take l.length)[j]? = some (f b) := by rw [h, List.getElem?_map, hb]; rfl
  rw [List.getElem?_take, if_pos hj] at h1
  exact h1
