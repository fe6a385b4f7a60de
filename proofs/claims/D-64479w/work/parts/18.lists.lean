/-! PURE: copying and shifting in arrays -/
theorem cp_step {α : Type} {xs : List α} {z x : α} {N j : Nat} (hx : xs[j]? = some x) (hj : j < N) : (xs.take j ++ List.replicate (N - j) z).set j x = xs.take (j + 1) ++ List.replicate (N - (j + 1)) z := by
  obtain ⟨h1, h2⟩ := List.getElem?_eq_some_iff.mp hx
  have e1 : (xs.take j).length = j := by simp; omega
  obtain ⟨m, hm⟩ : ∃ m, N - j = m + 1 := ⟨N - j - 1, by omega⟩
  rw [hm, List.replicate_succ, List.set_append, if_neg (by omega), e1, Nat.sub_self, List.set_cons_zero, show N - (j + 1) = m by omega, List.take_succ, hx]
  simp
theorem cp_len {α : Type} {xs : List α} {z : α} {N j : Nat} (h1 : j ≤ xs.length) (h2 : j ≤ N) : (xs.take j ++ List.replicate (N - j) z).length = N := by
  simp; omega
/-- shifting right: places above j (up to m) hold what was one below -/
def shR {α : Type} (o xs : List α) (m j : Nat) : Prop := xs.length = o.length ∧ (∀ i, i ≤ j → xs[i]? = o[i]?) ∧ ∀ i, j < i → i ≤ m → xs[i]? = o[i - 1]?
theorem shR.start {α : Type} {o : List α} {m : Nat} : shR o o m m := ⟨rfl, fun _ _ => rfl, fun i h1 h2 => by omega⟩
theorem shR.step {α : Type} {o xs : List α} {m j : Nat} {x : α} (h : shR o xs m (j + 1)) (hx : xs[j]? = some x) (hm : m < o.length) (hj : j + 1 ≤ m) : shR o (xs.set (j + 1) x) m j := by
  obtain ⟨h1, h2, h3⟩ := h
  refine ⟨by rw [List.length_set, h1], fun i hi => ?_, fun i hi hi2 => ?_⟩
  · rw [List.getElem?_set_ne (by omega)]; exact h2 i (by omega)
  · by_cases e : i = j + 1
    · subst e
      rw [List.getElem?_set_self (by omega), Nat.add_sub_cancel, ← hx, h2 j (by omega)]
    · rw [List.getElem?_set_ne (by omega)]; exact h3 i (by omega) hi2
theorem shR.done {α : Type} {o xs : List α} {m j : Nat} {x : α} (h : shR o xs m j) (hm : m < o.length) (hj : j ≤ m) : (xs.set j x).take (m + 1) = o.take j ++ x :: (o.take m).drop j := by
  obtain ⟨h1, h2, h3⟩ := h
  apply List.ext_getElem?
  intro i
  have e1 : (o.take j).length = j := by simp; omega
  rw [List.getElem?_take]
  by_cases hi : i < m + 1
  · rw [if_pos hi]
    rcases Nat.lt_trichotomy i j with h | h | h
    · rw [List.getElem?_set_ne (by omega), List.getElem?_append_left (by omega), List.getElem?_take, if_pos h]
      exact h2 i (by omega)
    · subst h
      rw [List.getElem?_set_self (by omega), List.getElem?_append_right (by omega), e1, Nat.sub_self]
      rfl
    · obtain ⟨q, rfl⟩ : ∃ q, i = q + 1 := ⟨i - 1, by omega⟩
      rw [List.getElem?_set_ne (by omega), List.getElem?_append_right (by omega), e1, show q + 1 - j = (q - j) + 1 by omega, List.getElem?_cons_succ, List.getElem?_drop, show j + (q - j) = q by omega, List.getElem?_take, if_pos (by omega)]
      exact h3 (q + 1) h (by omega)
  · rw [if_neg hi, List.getElem?_eq_none]
    simp
    omega
/-- shifting left by b - a, places from b up to j done -/
def shL {α : Type} (o xs : List α) (a b j : Nat) : Prop := xs.length = o.length ∧ (∀ i, i < a → xs[i]? = o[i]?) ∧ (∀ i, a ≤ i → i + b < a + j → xs[i]? = o[i + b - a]?) ∧ ∀ i, a + j ≤ i + b → xs[i]? = o[i]?
theorem shL.start {α : Type} {o : List α} {a b : Nat} : shL o o a b b := ⟨rfl, fun _ _ => rfl, fun i h1 h2 => by omega, fun _ _ => rfl⟩
theorem shL.step {α : Type} {o xs : List α} {a b j : Nat} {x : α} (h : shL o xs a b j) (hab : a ≤ b) (hx : xs[j]? = some x) (hj : j < o.length) (hb : b ≤ j) : shL o (xs.set (a + j - b) x) a b (j + 1) := by
  obtain ⟨h1, h2, h3, h4⟩ := h
  refine ⟨by rw [List.length_set, h1], fun i hi => ?_, fun i hi hi2 => ?_, fun i hi => ?_⟩
  · rw [List.getElem?_set_ne (by omega)]; exact h2 i hi
  · by_cases e : i = a + j - b
    · subst e
      rw [List.getElem?_set_self (by omega), ← hx, h4 j (by omega), show a + j - b + b - a = j by omega]
    · rw [List.getElem?_set_ne (by omega)]; exact h3 i hi (by omega)
  · rw [List.getElem?_set_ne (by omega)]; exact h4 i (by omega)
theorem shL.done {α : Type} {o xs : List α} {a b m : Nat} (h : shL o xs a b m) (hab : a ≤ b) (hb : b ≤ m) (hm : m ≤ o.length) : xs.take (m - (b - a)) = (o.take m).take a ++ (o.take m).drop b := by
  obtain ⟨h1, h2, h3, h4⟩ := h
  apply List.ext_getElem?
  intro i
  have e1 : ((o.take m).take a).length = a := by simp; omega
  rw [List.getElem?_take]
  by_cases hi : i < m - (b - a)
  · rw [if_pos hi]
    rcases Nat.lt_or_ge i a with h | h
    · rw [List.getElem?_append_left (by omega), List.getElem?_take, if_pos h, List.getElem?_take, if_pos (by omega)]
      exact h2 i h
    · rw [List.getElem?_append_right (by omega), e1, List.getElem?_drop, List.getElem?_take, if_pos (by omega), h3 i h (by omega)]
      congr 1
      omega
  · rw [if_neg hi, List.getElem?_eq_none]
    simp
    omega
theorem take_get {α : Type} {xs : List α} {m j : Nat} (h : j < m) : (xs.take m)[j]? = xs[j]? := by rw [List.getElem?_take, if_pos h]
theorem map_take_drop {α β : Type} {f : α → β} {l : List α} {xs : List β} (h : xs.take l.length = l.map f) (i : Nat) : (xs.take l.length).take i = (l.take i).map f ∧ (xs.take l.length).drop i = (l.drop i).map f := by
  rw [h]
  exact ⟨(List.map_take ..).symm, (List.map_drop ..).symm⟩
