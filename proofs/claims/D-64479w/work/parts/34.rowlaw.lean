/-! PURE: what a message makes of a row, by keys -/
set_option maxRecDepth 100000
theorem srt_map {r : Prs} : srt r ↔ (r.map (·.1)).Pairwise (· < ·) := by
  unfold srt
  rw [List.pairwise_map]
theorem lkp_iff {r : Prs} {x : Int32} {v : Int64} (hs : srt r) : lkp r x = some v ↔ (x, v) ∈ r := by
  induction r with
  | nil => simp [lkp]
  | cons q t ih =>
    obtain ⟨h1, h2⟩ := List.pairwise_cons.mp hs
    by_cases e : q.1 = x
    · have : lkp (q :: t) x = some q.2 := by
        unfold lkp
        rw [List.find?_cons_of_pos (by simpa using e)]
        rfl
      rw [this, List.mem_cons]
      constructor
      · intro h
        left
        rw [← e]
        cases h
        rfl
      · rintro (h | h)
        · rw [← h]
        · have := h1 _ h
          rw [e, i_lt] at this
          dsimp only at this
          omega
    · have : lkp (q :: t) x = lkp t x := by
        unfold lkp
        rw [List.find?_cons_of_neg (by simpa using e)]
      rw [this, ih h2, List.mem_cons]
      constructor
      · exact Or.inr
      · rintro (h | h)
        · rw [← h] at e; exact absurd rfl e
        · exact h
theorem lkp_none {r : Prs} {x : Int32} : lkp r x = none ↔ ∀ v, (x, v) ∉ r := by
  unfold lkp
  rw [Option.map_eq_none_iff, List.find?_eq_none]
  constructor
  · intro h v hv
    have := h _ hv
    simp at this
  · rintro h ⟨y, v⟩ hq e
    have : y = x := by simpa using e
    subst this
    exact h v hq
theorem mem_get {α : Type} {l : List α} {q : α} : q ∈ l ↔ ∃ i : Nat, l[i]? = some q := by
  constructor
  · intro h; exact List.getElem?_of_mem h
  · rintro ⟨i, h⟩; exact List.mem_of_getElem? h
theorem mem_tk {r : Prs} {key : Int32} {q : Int32 × Int64} (hs : srt r) : q ∈ r.take (blw key r) ↔ q ∈ r ∧ q.1 < key := by
  constructor
  · intro h
    refine ⟨List.mem_of_mem_take h, ?_⟩
    obtain ⟨i, hi⟩ := mem_get.mp h
    rw [List.getElem?_take] at hi
    split at hi
    · next h1 => exact blw_lt h1 hi
    · cases hi
  · rintro ⟨h, hk⟩
    obtain ⟨i, hi⟩ := mem_get.mp h
    refine mem_get.mpr ⟨i, ?_⟩
    rw [List.getElem?_take, if_pos]
    · exact hi
    · exact Nat.lt_of_not_le (fun h2 => srt_ge hs h2 hi hk)
theorem mem_dr {r : Prs} {key : Int32} {q : Int32 × Int64} (hs : srt r) : q ∈ r.drop (blw key r) ↔ q ∈ r ∧ ¬ q.1 < key := by
  constructor
  · intro h
    refine ⟨List.mem_of_mem_drop h, ?_⟩
    obtain ⟨i, hi⟩ := mem_get.mp h
    rw [List.getElem?_drop] at hi
    exact srt_ge hs (by omega) hi
  · rintro ⟨h, hk⟩
    obtain ⟨i, hi⟩ := mem_get.mp h
    have : blw key r ≤ i := Nat.le_of_not_lt (fun h2 => hk (blw_lt h2 hi))
    refine mem_get.mpr ⟨i - blw key r, ?_⟩
    rw [List.getElem?_drop, show blw key r + (i - blw key r) = i by omega]
    exact hi
theorem le_max {x : Int32} : x.toInt ≤ 2147483647 := by have := x.toInt_lt; omega
theorem max_int : (2147483647 : Int32).toInt = 2147483647 := by decide
theorem min_int : (-2147483648 : Int32).toInt = -2147483648 := by decide
theorem mem_tku {r : Prs} {key : Int32} {q : Int32 × Int64} (hs : srt r) : q ∈ r.take (upt key r) ↔ q ∈ r ∧ q.1 ≤ key := by
  unfold upt
  split
  · next e =>
    rw [List.take_length]
    constructor
    · intro h
      refine ⟨h, ?_⟩
      rw [e, i_le, max_int]
      exact le_max
    · exact fun h => h.1
  · next e =>
    rw [mem_tk hs, i_lt, i_succ e, i_le]
    constructor
    · rintro ⟨h1, h2⟩; exact ⟨h1, by omega⟩
    · rintro ⟨h1, h2⟩; exact ⟨h1, by omega⟩
theorem mem_dru {r : Prs} {key : Int32} {q : Int32 × Int64} (hs : srt r) : q ∈ r.drop (upt key r) ↔ q ∈ r ∧ ¬ q.1 ≤ key := by
  unfold upt
  split
  · next e =>
    rw [List.drop_length]
    constructor
    · intro h; cases h
    · rintro ⟨h1, h2⟩
      refine absurd ?_ h2
      rw [e, i_le, max_int]
      exact le_max
  · next e =>
    rw [mem_dr hs, i_lt, i_succ e, i_le]
    constructor
    · rintro ⟨h1, h2⟩; exact ⟨h1, by omega⟩
    · rintro ⟨h1, h2⟩; exact ⟨h1, by omega⟩
theorem srt.take {r : Prs} {i : Nat} (hs : srt r) : srt (r.take i) := List.Pairwise.sublist (List.take_sublist i r) hs
theorem srt.drop {r : Prs} {i : Nat} (hs : srt r) : srt (r.drop i) := List.Pairwise.sublist (List.drop_sublist i r) hs
theorem srt.app {r s : Prs} (h1 : srt r) (h2 : srt s) (h : ∀ p ∈ r, ∀ q ∈ s, p.1 < q.1) : srt (r ++ s) := List.pairwise_append.mpr ⟨h1, h2, h⟩
theorem lkp_rai {m : Msg} {x : Int32} : ∀ {r : Prs}, lkp (raiR m r) x = if m.2.1 ≤ x ∧ x ≤ m.2.2.1 then (lkp r x).map (· + m.2.2.2) else lkp r x := by
  intro r
  induction r with
  | nil => simp [lkp, raiR]
  | cons q t ih =>
    have e0 : raiR m (q :: t) = (if m.2.1 ≤ q.1 ∧ q.1 ≤ m.2.2.1 then (q.1, q.2 + m.2.2.2) else q) :: raiR m t := rfl
    rw [e0]
    by_cases e : q.1 = x
    · subst e
      by_cases hc : m.2.1 ≤ q.1 ∧ q.1 ≤ m.2.2.1
      · rw [if_pos hc, if_pos hc]
        unfold lkp
        rw [List.find?_cons_of_pos (by simp), List.find?_cons_of_pos (by simp)]
        rfl
      · rw [if_neg hc, if_neg hc]
        unfold lkp
        rw [List.find?_cons_of_pos (by simp), List.find?_cons_of_pos (by simp)]
    · have h1 : lkp (q :: t) x = lkp t x := by
        unfold lkp
        rw [List.find?_cons_of_neg (by simpa using e)]
      rw [h1, ← ih]
      unfold lkp
      rw [List.find?_cons_of_neg]
      split
      · simpa using e
      · simpa using e
theorem mApp_ok {m : Msg} {r : Prs} (hs : srt r) (hm : m.2.1 ≤ m.2.2.1) (hsg : isR m = false → m.2.1 = m.2.2.1) : srt (mApp m r) ∧ ∀ x, lkp (mApp m r) x = eff m x (lkp r x) := by
  unfold mApp
  by_cases e1 : m.1 = 1
  · rw [if_pos e1]
    have hs' : srt (r.take (blw m.2.1 r) ++ r.drop (upt m.2.2.1 r)) := by
      refine hs.take.app hs.drop (fun p hp q hq => ?_)
      have h1 := ((mem_tk hs).mp hp).2
      have h2 := ((mem_dru hs).mp hq).2
      rw [i_lt] at *
      rw [i_le] at h2 hm
      omega
    refine ⟨hs', fun x => ?_⟩
    unfold eff app1
    rw [if_pos e1]
    apply Option.ext
    intro v
    rw [lkp_iff hs', List.mem_append, mem_tk hs, mem_dru hs]
    by_cases hx : m.2.1 ≤ x ∧ x ≤ m.2.2.1
    · rw [if_pos hx]
      rw [i_lt, i_le]
      rw [i_le, i_le] at hx
      constructor
      · rintro (h | h) <;> (have := h.2; dsimp only at this; omega)
      · intro h; cases h
    · rw [if_neg hx, lkp_iff hs]
      constructor
      · rintro (h | h) <;> exact h.1
      · intro h
        rw [i_le, i_le] at hx
        rw [i_lt, i_le]
        by_cases hxf : x.toInt < m.2.1.toInt
        · exact Or.inl ⟨h, hxf⟩
        · exact Or.inr ⟨h, fun h9 => hx ⟨by omega, h9⟩⟩
  · rw [if_neg e1]
    by_cases e4 : m.1 = 4
    · rw [if_pos e4]
      refine ⟨?_, fun x => ?_⟩
      · rw [srt_map] at hs ⊢
        have : (raiR m r).map (·.1) = r.map (·.1) := by
          unfold raiR
          rw [List.map_map]
          refine List.map_congr_left (fun q _ => ?_)
          simp only [Function.comp]
          split <;> rfl
        rw [this]
        exact hs
      · rw [lkp_rai]
        unfold eff app1
        rw [if_neg e1, if_pos e4]
    · rw [if_neg e4]
      have hR : isR m = false := by simp [isR, e1, e4]
      have hft := hsg hR
      have heff : ∀ x, eff m x (lkp r x) = if x = m.2.1 then (match lkp r m.2.1 with
          | some y => some (mop m.1 y m.2.2.2)
          | none => some m.2.2.2) else lkp r x := by
        intro x
        unfold eff app1
        rw [if_neg e1, if_neg e4, ← hft]
        by_cases hx : x = m.2.1
        · subst hx
          rw [if_pos ⟨by rw [i_le]; omega, by rw [i_le]; omega⟩, if_pos rfl]
          cases lkp r m.2.1 <;> rfl
        · rw [if_neg, if_neg hx]
          rintro ⟨h1, h2⟩
          rw [i_le] at h1 h2
          exact hx (i_eq.mpr (by omega))
      by_cases hh : hasB m.2.1 r = true
      · rw [if_pos hh]
        obtain ⟨p, hp, hpk⟩ := hasB_iff.mp hh
        have hpd : r.getD (blw m.2.1 r) (0, 0) = p := getD_of hp
        rw [hpd]
        have hb := (List.getElem?_eq_some_iff.mp hp).1
        have hl : lkp r m.2.1 = some p.2 := by rw [lkp_iff hs, ← hpk]; exact List.mem_of_getElem? hp
        have hs' : srt (r.set (blw m.2.1 r) (m.2.1, mop m.1 p.2 m.2.2.2)) := by
          rw [srt_map] at hs ⊢
          rw [List.map_set, set_same (by rw [List.getElem?_map, hp, ← hpk]; rfl)]
          exact hs
        refine ⟨hs', fun x => ?_⟩
        rw [heff x, hl]
        apply Option.ext
        intro v
        rw [lkp_iff hs']
        by_cases hx : x = m.2.1
        · subst hx
          rw [if_pos rfl]
          constructor
          · intro h
            have h2 : (m.2.1, mop m.1 p.2 m.2.2.2) ∈ r.set (blw m.2.1 r) (m.2.1, mop m.1 p.2 m.2.2.2) := mem_get.mpr ⟨_, List.getElem?_set_self hb⟩
            rw [← lkp_iff hs'] at h h2
            rw [← h, h2]
          · intro h
            cases h
            exact mem_get.mpr ⟨_, List.getElem?_set_self hb⟩
        · rw [if_neg hx, lkp_iff hs]
          constructor
          · intro h
            obtain ⟨i, hi⟩ := mem_get.mp h
            by_cases e : i = blw m.2.1 r
            · subst e
              rw [List.getElem?_set_self hb] at hi
              cases hi
              exact absurd rfl hx
            · rw [List.getElem?_set_ne (Ne.symm e)] at hi
              exact mem_get.mpr ⟨i, hi⟩
          · intro h
            obtain ⟨i, hi⟩ := mem_get.mp h
            refine mem_get.mpr ⟨i, ?_⟩
            rw [List.getElem?_set_ne]
            · exact hi
            · intro e
              subst e
              rw [hp] at hi
              cases hi
              exact hx hpk
      · rw [if_neg hh]
        have hl : lkp r m.2.1 = none := by
          rw [lkp_none]
          intro v hv
          refine hh (hasB_iff.mpr ?_)
          obtain ⟨i, hi⟩ := mem_get.mp hv
          have h1 : blw m.2.1 r ≤ i := Nat.le_of_not_lt (fun h2 => by have := blw_lt h2 hi; rw [i_lt] at this; dsimp only at this; omega)
          have hb : blw m.2.1 r < r.length := Nat.lt_of_le_of_lt h1 (List.getElem?_eq_some_iff.mp hi).1
          obtain ⟨p, hp⟩ := at_of hb
          refine ⟨p, hp, ?_⟩
          have h2 := blw_ge hp
          rw [i_lt] at h2
          rcases Nat.lt_or_ge (blw m.2.1 r) i with h3 | h3
          · have := srt_lt hs h3 hp hi
            rw [i_lt] at this
            dsimp only at this
            omega
          · have : i = blw m.2.1 r := by omega
            subst this
            rw [hp] at hi
            cases hi
            rfl
        have hnot : ∀ q ∈ r, q.1 ≠ m.2.1 := fun q hq e => by
          rw [lkp_none] at hl
          exact hl q.2 (by rw [← e]; exact hq)
        have hs' : srt (insR r (blw m.2.1 r) (m.2.1, m.2.2.2)) := by
          unfold insR
          refine hs.take.app (List.pairwise_cons.mpr ⟨fun q hq => ?_, hs.drop⟩) (fun p hp q hq => ?_)
          · obtain ⟨h1, h2⟩ := (mem_dr hs).mp hq
            have := hnot q h1
            rw [i_lt] at *
            have : q.1.toInt ≠ m.2.1.toInt := fun z => this (i_eq.mpr z)
            dsimp only
            omega
          · have h1 := ((mem_tk hs).mp hp).2
            rcases List.mem_cons.mp hq with e | hq
            · subst e; exact h1
            · have h2 := ((mem_dr hs).mp hq).2
              rw [i_lt] at *
              omega
        refine ⟨hs', fun x => ?_⟩
        rw [heff x, hl]
        apply Option.ext
        intro v
        rw [lkp_iff hs']
        have hmem : (x, v) ∈ insR r (blw m.2.1 r) (m.2.1, m.2.2.2) ↔ (x, v) = (m.2.1, m.2.2.2) ∨ (x, v) ∈ r := by
          unfold insR
          rw [List.mem_append, List.mem_cons]
          constructor
          · rintro (h | h | h)
            · exact Or.inr (List.mem_of_mem_take h)
            · exact Or.inl h
            · exact Or.inr (List.mem_of_mem_drop h)
          · rintro (h | h)
            · exact Or.inr (Or.inl h)
            · by_cases h2 : x < m.2.1
              · exact Or.inl ((mem_tk hs).mpr ⟨h, h2⟩)
              · exact Or.inr (Or.inr ((mem_dr hs).mpr ⟨h, h2⟩))
        rw [hmem]
        by_cases hx : x = m.2.1
        · subst hx
          rw [if_pos rfl]
          constructor
          · rintro (h | h)
            · cases h; rfl
            · exact absurd rfl (hnot _ h)
          · intro h
            cases h
            exact Or.inl rfl
        · rw [if_neg hx, lkp_iff hs]
          constructor
          · rintro (h | h)
            · cases h; exact absurd rfl hx
            · exact h
          · exact Or.inr
/-- rows with the same pairs are the same -/
theorem srt_ext : ∀ {r s : Prs}, srt r → srt s → (∀ x, lkp r x = lkp s x) → r = s := by
  intro r
  induction r with
  | nil =>
    intro s _ hs h
    cases s with
    | nil => rfl
    | cons q t =>
      have := h q.1
      rw [show lkp (q :: t) q.1 = some q.2 from (lkp_iff hs).mpr List.mem_cons_self] at this
      cases this
  | cons p t ih =>
    intro s hr hs h
    cases s with
    | nil =>
      have := h p.1
      rw [show lkp (p :: t) p.1 = some p.2 from (lkp_iff hr).mpr List.mem_cons_self] at this
      cases this
    | cons q u =>
      obtain ⟨h1, h2⟩ := List.pairwise_cons.mp hr
      obtain ⟨h3, h4⟩ := List.pairwise_cons.mp hs
      have hp : (p.1, p.2) ∈ q :: u := by rw [← lkp_iff hs, ← h, lkp_iff hr]; exact List.mem_cons_self
      have hq : (q.1, q.2) ∈ p :: t := by rw [← lkp_iff hr, h, lkp_iff hs]; exact List.mem_cons_self
      have e : p = q := by
        rcases List.mem_cons.mp hp with e | hp
        · exact e
        · rcases List.mem_cons.mp hq with e | hq
          · exact e.symm
          · have a1 := h3 _ hp
            have a2 := h1 _ hq
            rw [i_lt] at a1 a2
            dsimp only at a1 a2
            omega
      subst e
      congr 1
      refine ih h2 h4 (fun x => ?_)
      apply Option.ext
      intro v
      rw [lkp_iff h2, lkp_iff h4]
      have key0 : ∀ {w1 w2 : Prs}, srt (p :: w1) → srt (p :: w2) → (∀ x, lkp (p :: w1) x = lkp (p :: w2) x) → (x, v) ∈ w1 → (x, v) ∈ w2 := by
        intro w1 w2 g1 g2 hh hm
        have h5 : (x, v) ∈ p :: w2 := by rw [← lkp_iff g2, ← hh, lkp_iff g1]; exact List.mem_cons_of_mem _ hm
        rcases List.mem_cons.mp h5 with e | h5
        · have := (List.pairwise_cons.mp g1).1 _ hm
          rw [e, i_lt] at this
          omega
        · exact h5
      exact ⟨key0 hr hs h, key0 hs hr (fun x => (h x).symm)⟩
/-- a row with what a function has between two keys -/
def isRng (f : Int32 → Option Int64) (a b : Int32) (r : Prs) : Prop := srt r ∧ ∀ x v, (x, v) ∈ r ↔ (a ≤ x ∧ x ≤ b ∧ f x = some v)
theorem isRng.of {f : Int32 → Option Int64} {a b : Int32} {r : Prs} (hs : srt r) (h : ∀ x, lkp r x = if a ≤ x ∧ x ≤ b then f x else none) : isRng f a b r := by
  refine ⟨hs, fun x v => ?_⟩
  rw [← lkp_iff hs, h x]
  split
  · next e => exact ⟨fun q => ⟨e.1, e.2, q⟩, fun q => q.2.2⟩
  · next e => exact ⟨fun q => (by cases q), fun q => absurd ⟨q.1, q.2.1⟩ e⟩
theorem isRng.at {f : Int32 → Option Int64} {a b : Int32} {r : Prs} (h : isRng f a b r) (x : Int32) : lkp r x = if a ≤ x ∧ x ≤ b then f x else none := by
  apply Option.ext
  intro v
  rw [lkp_iff h.1, h.2]
  split
  · next e => exact ⟨fun q => q.2.2, fun q => ⟨e.1, e.2, q⟩⟩
  · next e => exact ⟨fun q => absurd ⟨q.1, q.2.1⟩ e, fun q => by cases q⟩
