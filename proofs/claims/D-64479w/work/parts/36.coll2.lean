/-! Page.collect: inner pages -/
set_option maxRecDepth 100000
theorem effs_out {ms : List Msg} {x : Int32} {o : Option Int64} (h : ∀ m ∈ ms, ¬ (m.2.1 ≤ x ∧ x ≤ m.2.2.1)) : effs ms x o = o := by
  induction ms generalizing o with
  | nil => rfl
  | cons m t ih =>
    show effs t x (eff m x o) = o
    rw [show eff m x o = o from if_neg (h m List.mem_cons_self)]
    exact ih (fun m hm => h m (List.mem_cons_of_mem _ hm))
theorem den_out : ∀ (h : Nat) (t : PT h) (lo hi x : Int32), Wf h t lo hi → (x < lo ∨ hi < x) → den h t x = none := by
  intro h
  cases h with
  | zero =>
    intro t lo hi x hw hx
    obtain ⟨⟨p, r⟩, o, row, c⟩ := t
    show lkp row x = none
    rw [lkp_none]
    intro v hv
    have := hw.2.1 _ hv
    rw [i_le, i_le] at this
    rw [i_lt, i_lt] at hx
    dsimp only at this
    omega
  | succ h =>
    intro t lo hi x hw hx
    obtain ⟨⟨p, cp, cl⟩, o, ks, ls, c1, c2⟩ := t
    obtain ⟨w1, w2, w3, w4, w5, w6, w7, w8, w9, w10⟩ := hw
    rw [i_lt, i_lt] at hx
    show effs (ls.map (·.2)) x (dnk (den h) ks x) = none
    have : dnk (den h) ks x = none := by
      unfold dnk
      rw [w3.nofind (by omega)]
    rw [this]
    refine effs_out (fun m hm => ?_)
    obtain ⟨q, hq, rfl⟩ := List.mem_map.mp hm
    obtain ⟨-, b1, b2⟩ := w5 q hq
    rw [i_le] at b1 b2
    rw [i_le, i_le]
    omega
theorem dnk_snoc {X : Type} {f : X → Int32 → Option Int64} {l : List (Int32 × Int32 × X)} {c : Int32 × Int32 × X} {a b : Int} {x : Int32} (h : chn a b (l ++ [c])) : dnk f (l ++ [c]) x = if kin x c = true then f c.2.2 x else dnk f l x := by
  obtain ⟨m, h1, h2⟩ := chn.app.mp h
  unfold dnk
  rw [List.find?_append]
  by_cases e : kin x c = true
  · rw [if_pos e]
    have : l.find? (kin x) = none := h1.nofind (by
      have := h2.1
      have := kin_iff.mp e
      omega)
    rw [this, Option.none_or, List.find?_cons_of_pos e]
  · rw [if_neg e, List.find?_cons_of_neg e, List.find?_nil, Option.or_none]
theorem dnk_in {X : Type} {f : X → Int32 → Option Int64} {l : List (Int32 × Int32 × X)} {x : Int32} {v : Int64} (h : dnk f l x = some v) : ∃ c ∈ l, c.1.toInt ≤ x.toInt ∧ x.toInt ≤ c.2.1.toInt := by
  unfold dnk at h
  cases hf : l.find? (kin x) with
  | none => rw [hf] at h; cases h
  | some c => exact ⟨c, List.mem_of_find?_eq_some hf, kin_iff.mp (List.find?_some hf)⟩
theorem imax_int {x y : Int32} : (imax x y).toInt = max x.toInt y.toInt := by
  unfold imax
  split
  · next h => rw [i_lt] at h; omega
  · next h => rw [i_lt] at h; omega
theorem imin_int {x y : Int32} : (imin x y).toInt = min x.toInt y.toInt := by
  unfold imin
  split
  · next h => rw [i_lt] at h; omega
  · next h => rw [i_lt] at h; omega
theorem cut_ok {m : Msg} {a b : Int32} (hm : okM m) (hi : mIn m a b) (hab : a ≤ b) : okM (mcut m a b) ∧ mWi (mcut m a b) a b := by
  obtain ⟨h1, h2⟩ := hm
  obtain ⟨h3, h4⟩ := hi
  have e1 : (mcut m a b).2.1 = imax m.2.1 a := rfl
  have e2 : (mcut m a b).2.2.1 = imin m.2.2.1 b := rfl
  rw [i_le] at h1 h3 h4 hab
  refine ⟨⟨?_, fun hR => ?_⟩, ?_, ?_⟩
  · rw [i_le, e1, e2, imax_int, imin_int]; omega
  · have := h2 hR
    rw [i_eq, e1, e2, imax_int, imin_int]
    rw [i_eq] at this
    omega
  · rw [i_le, e1, imax_int]; omega
  · rw [i_le, e2, imin_int]; omega
theorem cut_eff {m : Msg} {a b x : Int32} {o : Option Int64} (h1 : a ≤ x) (h2 : x ≤ b) : eff (mcut m a b) x o = eff m x o := by
  unfold eff
  have e1 : (mcut m a b).2.1 = imax m.2.1 a := rfl
  have e2 : (mcut m a b).2.2.1 = imin m.2.2.1 b := rfl
  have e3 : app1 (mcut m a b) o = app1 m o := rfl
  rw [e1, e2, e3]
  rw [i_le] at h1 h2
  have : (imax m.2.1 a ≤ x ∧ x ≤ imin m.2.2.1 b) ↔ (m.2.1 ≤ x ∧ x ≤ m.2.2.1) := by
    rw [i_le, i_le, i_le, i_le, imax_int, imin_int]
    omega
  by_cases e : m.2.1 ≤ x ∧ x ≤ m.2.2.1
  · rw [if_pos e, if_pos (this.mpr e)]
  · rw [if_neg e, if_neg (fun h => e (this.mp h))]
theorem out_eff {m : Msg} {a b x : Int32} {o : Option Int64} (h : ¬ mIn m a b) (h1 : a ≤ x) (h2 : x ≤ b) : eff m x o = o := by
  unfold eff
  rw [if_neg]
  rintro ⟨h3, h4⟩
  refine h ⟨?_, ?_⟩
  · rw [i_le] at *; omega
  · rw [i_le] at *; omega
theorem wi_out {m : Msg} {a b x : Int32} {o : Option Int64} (h : mWi m a b) (hx : ¬ (a ≤ x ∧ x ≤ b)) : eff m x o = o := by
  unfold eff
  rw [if_neg]
  rintro ⟨h3, h4⟩
  obtain ⟨h5, h6⟩ := h
  refine hx ⟨?_, ?_⟩
  · rw [i_le] at *; omega
  · rw [i_le] at *; omega
theorem mApp_le {m : Msg} {r : Prs} (h : m.2.1 ≤ m.2.2.1) : (mApp m r).length ≤ r.length + (if isR m = true then 0 else 1) := by
  refine Nat.le_trans (mApp_len h) ?_
  unfold insB isR
  by_cases e1 : m.1 = 1
  · simp [e1]
  · by_cases e4 : m.1 = 4
    · simp [e4]
    · simp [e1, e4]
      split <;> omega
/-- a message between two keys, on a row of what is there -/
theorem rng_step {f : Int32 → Option Int64} {a b : Int32} {r : Prs} {m : Msg} (h : isRng f a b r) (hm : okM m) (hi : mIn m a b) (hab : a ≤ b) : isRng (fun x => eff m x (f x)) a b (mApp (mcut m a b) r) := by
  obtain ⟨h1, h2⟩ := cut_ok hm hi hab
  obtain ⟨h3, h4⟩ := mApp_ok h.1 h1.1 h1.2
  refine isRng.of h3 (fun x => ?_)
  rw [h4 x, h.at x]
  split
  · next e => exact cut_eff e.1 e.2
  · next e => exact wi_out h2 e
theorem rng_skip {f : Int32 → Option Int64} {a b : Int32} {r : Prs} {m : Msg} (h : isRng f a b r) (hi : ¬ mIn m a b) : isRng (fun x => eff m x (f x)) a b r := by
  refine isRng.of h.1 (fun x => ?_)
  rw [h.at x]
  split
  · next e => exact (out_eff hi e.1 e.2).symm
  · rfl
theorem WK.notdeep {α : AM} {w : WS} {d0 kd j a c d1 : Nat} (hW : WK α w d0) (hk : kd < 4) (he : w.2.2 kd j = some (a, c)) (hj : j < d1) : ¬ wFp w d1 a := by
  rintro (⟨kd', hk', e⟩ | ⟨kd', j', c', hk', hj', e⟩)
  · exact (hW.arr_ne hk hk' he).1 e
  · have := hW.2.2.2.1 kd j kd' j' a c c' hk hk' he e
    omega
theorem puts_le {ls : List (Nat × Msg)} : puts ls ≤ ls.length := List.countP_le_length
theorem puts_snoc {ls : List (Nat × Msg)} {q : Nat × Msg} : puts (ls ++ [q]) = puts ls + (if isR q.2 = true then 0 else 1) := by
  unfold puts
  rw [List.countP_append, List.countP_singleton]
  cases isR q.2 <;> rfl
theorem puts_take {ls : List (Nat × Msg)} {j : Nat} : puts (ls.take j) ≤ puts ls := (List.take_sublist j ls).countP_le
theorem ksum_take {X : Type} {f : X → Nat} {l : List X} {j : Nat} : ksum f (l.take j) ≤ ksum f l := by
  have : ksum f l = ksum f (l.take j) + ksum f (l.drop j) := by rw [← ksum_app, List.take_append_drop]
  omega
theorem ksum_snoc {X : Type} {f : X → Nat} {l : List X} {j : Nat} {c : X} (h : l[j]? = some c) : ksum f (l.take (j + 1)) = ksum f (l.take j) + f c := by
  rw [take_snoc h, ksum_app, ksum_cons, ksum_nil]
  omega
