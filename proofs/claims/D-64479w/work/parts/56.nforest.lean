/-! PURE: the pages that an inner page with many children becomes -/
set_option maxRecDepth 100000
theorem chn.first {X : Type} {l : List (Int32 × Int32 × X)} {a b : Int} {c : Int32 × Int32 × X} (h : chn a b l) (hc : l[0]? = some c) : a = c.1.toInt := by
  cases l with
  | nil => cases hc
  | cons q t =>
    have : q = c := by simpa using hc
    subst this
    exact h.1.symm
theorem chn.last {X : Type} {l : List (Int32 × Int32 × X)} {a b : Int} {c : Int32 × Int32 × X} (h : chn a b l) (hc : l[l.length - 1]? = some c) : b = c.2.1.toInt := by
  have h1 := (List.getElem?_eq_some_iff.mp hc).1
  exact ((h.nth hc).2 (List.getElem?_eq_none (by omega))).symm
theorem rsum_succ {f : Nat → Nat} {i : Nat} : ksum f (List.range (i + 1)) = ksum f (List.range i) + f i := by
  rw [List.range_succ, ksum_app, ksum_cons, ksum_nil]
  omega
theorem ksum_swap {X : Type} {f : Nat → X → Nat} {ms : List X} : ∀ {i : Nat}, ksum (fun j => ksum (f j) ms) (List.range i) = ksum (fun m => ksum (fun j => f j m) (List.range i)) ms := by
  intro i
  induction i with
  | zero =>
    have : ∀ l : List X, ksum (fun _ => 0) l = 0 := fun l => ksum_zero (fun _ _ => rfl)
    exact (this ms).symm
  | succ i ih =>
    rw [rsum_succ, ih]
    have : ∀ l : List X, ksum (fun m => ksum (fun j => f j m) (List.range (i + 1))) l = ksum (fun m => ksum (fun j => f j m) (List.range i)) l + ksum (f i) l := by
      intro l
      induction l with
      | nil => rfl
      | cons m t iht =>
        rw [ksum_cons, ksum_cons, ksum_cons, iht, rsum_succ]
        omega
    rw [this]
theorem fe_1 {f e : Nat} (h : f + 4 ≤ e) : f + (e - f - 1) = e - 1 := by omega
section NFO
variable {h q : Nat} {lo hi : Int32} {ks : List (Kid h)}
/-- ends of the slices -/
def bS (ks : List (Kid h)) (q : Nat) (lo : Int32) (j : Nat) : Int := if j = 0 then lo.toInt - 1 else (hiS ks q (j - 1)).toInt
theorem bS_all (hch : chn lo.toInt hi.toInt ks) (hq : 0 < q) (hq4 : 4 * q ≤ ks.length) : ∀ j, j ≤ q → chn lo.toInt (bS ks q lo j) (ks.take (ks.length * j / q)) ∧ chn (bS ks q lo j + 1) hi.toInt (ks.drop (ks.length * j / q)) ∧ (j < q → (loS ks q j).toInt = bS ks q lo j + 1 ∧ (hiS ks q j).toInt = bS ks q lo (j + 1) ∧ bS ks q lo j + 1 ≤ bS ks q lo (j + 1) ∧ chn (bS ks q lo j + 1) (bS ks q lo (j + 1)) (slc ks q j)) := by
  intro j
  have step : ∀ j, j < q → chn lo.toInt (bS ks q lo j) (ks.take (ks.length * j / q)) → chn (bS ks q lo j + 1) hi.toInt (ks.drop (ks.length * j / q)) → ((loS ks q j).toInt = bS ks q lo j + 1 ∧ (hiS ks q j).toInt = bS ks q lo (j + 1) ∧ bS ks q lo j + 1 ≤ bS ks q lo (j + 1) ∧ chn (bS ks q lo j + 1) (bS ks q lo (j + 1)) (slc ks q j)) ∧ chn (bS ks q lo (j + 1) + 1) hi.toInt (ks.drop (ks.length * (j + 1) / q)) := by
    intro j hj h1 h2
    have b1 := sl_lo (m := ks.length) (q := q) (j := j) (c := 4) hq (by omega)
    have b3 := sl_top (m := ks.length) (q := q) (j := j + 1) hq (by omega)
    have hl := slc_len (R := ks) (q := q) (j := j) hq hj
    have hsp : ks.drop (ks.length * j / q) = slc ks q j ++ ks.drop (ks.length * (j + 1) / q) := by
      have hc := slc_cat (R := ks) (q := q) (j := j)
      have h3 : ks = ks.take (ks.length * j / q) ++ (slc ks q j ++ ks.drop (ks.length * (j + 1) / q)) := by
        rw [← List.append_assoc, hc, List.take_append_drop]
      have hlen : (ks.take (ks.length * j / q)).length = ks.length * j / q := by rw [List.length_take]; omega
      calc ks.drop (ks.length * j / q) = (ks.take (ks.length * j / q) ++ (slc ks q j ++ ks.drop (ks.length * (j + 1) / q))).drop (ks.length * j / q) := by rw [← h3]
        _ = slc ks q j ++ ks.drop (ks.length * (j + 1) / q) := by
          rw [List.drop_append, List.drop_eq_nil_of_le (by omega), hlen, Nat.sub_self]
          rfl
    rw [hsp] at h2
    obtain ⟨m, q1, q2⟩ := chn.app.mp h2
    obtain ⟨c0, hc0⟩ := at_of (l := slc ks q j) (j := 0) (by omega)
    obtain ⟨c1, hc1⟩ := at_of (l := slc ks q j) (j := (slc ks q j).length - 1) (by omega)
    have e1 := q1.first hc0
    have e2 := q1.last hc1
    have f1 : loS ks q j = c0.1 := by
      unfold loS
      rw [slc_at (by omega), Nat.add_zero] at hc0
      rw [hc0]
    have f2 : hiS ks q j = c1.2.1 := by
      unfold hiS
      rw [slc_at (by omega), hl, fe_1 b1] at hc1
      rw [hc1]
    have f3 : bS ks q lo (j + 1) = m := by
      unfold bS
      rw [if_neg (by omega), Nat.add_sub_cancel, f2]
      exact e2.symm
    refine ⟨⟨by rw [f1]; exact e1.symm, by rw [f2, f3]; exact e2.symm, ?_, by rw [f3]; exact q1⟩, by rw [f3]; exact q2⟩
    rw [f3]
    have := (q1.mem c0 (List.mem_of_getElem? hc0))
    omega
  induction j with
  | zero =>
    intro _
    have h1 : chn lo.toInt (bS ks q lo 0) (ks.take (ks.length * 0 / q)) := by
      rw [Nat.mul_zero, Nat.zero_div, List.take_zero]
      show lo.toInt = lo.toInt - 1 + 1
      omega
    have h2 : chn (bS ks q lo 0 + 1) hi.toInt (ks.drop (ks.length * 0 / q)) := by
      rw [Nat.mul_zero, Nat.zero_div, List.drop_zero]
      have : bS ks q lo 0 + 1 = lo.toInt := by show lo.toInt - 1 + 1 = lo.toInt; omega
      rw [this]
      exact hch
    exact ⟨h1, h2, fun hj => (step 0 hj h1 h2).1⟩
  | succ j ih =>
    intro hj
    obtain ⟨i1, i2, i3⟩ := ih (by omega)
    obtain ⟨s1, s2⟩ := step j (by omega) i1 i2
    have h1 : chn lo.toInt (bS ks q lo (j + 1)) (ks.take (ks.length * (j + 1) / q)) := by
      rw [← slc_cat]
      exact chn.app.mpr ⟨_, i1, s1.2.2.2⟩
    exact ⟨h1, s2, fun hj' => (step (j + 1) hj' h1 s2).1⟩
theorem bS_end (hch : chn lo.toInt hi.toInt ks) (hq : 0 < q) (hq4 : 4 * q ≤ ks.length) : bS ks q lo q = hi.toInt := by
  obtain ⟨h1, -, -⟩ := bS_all hch hq hq4 q (Nat.le_refl _)
  rw [Nat.mul_div_cancel _ hq, List.take_length] at h1
  obtain ⟨c, hc⟩ := at_of (l := ks) (j := ks.length - 1) (by omega)
  rw [h1.last hc, hch.last hc]
/-- a message of one key goes to one part -/
theorem np_one (hch : chn lo.toInt hi.toInt ks) (hq : 0 < q) (hq4 : 4 * q ≤ ks.length) {m : Msg} (ok : okM m) (hr : isR m = false) : ∀ i, i ≤ q → ksum (fun j => if hit m (loS ks q j) (hiS ks q j) = true then 1 else 0) (List.range i) ≤ if m.2.1.toInt ≤ bS ks q lo i then 1 else 0 := by
  intro i
  have hft := ok.2 hr
  rw [i_eq] at hft
  induction i with
  | zero => intro _; exact Nat.zero_le _
  | succ i ih =>
    intro hi'
    have ih := ih (by omega)
    obtain ⟨s1, s2, s3, -⟩ := (bS_all hch hq hq4 i (by omega)).2.2 (by omega)
    rw [rsum_succ]
    by_cases hh : hit m (loS ks q i) (hiS ks q i) = true
    · have := hit_iff.mp hh
      rw [if_neg (by omega)] at ih
      rw [if_pos hh, if_pos (by omega)]
      omega
    · rw [if_neg hh]
      split at ih
      · next e => rw [if_pos (by omega)]; omega
      · omega
/-- the credit of a message of ranges, and the cells of its cutting -/
theorem np_rng (hch : chn lo.toInt hi.toInt ks) (hwf : wfK ks) (hq : 0 < q) (hq4 : 4 * q ≤ ks.length) {m : Msg} (ok : okM m) (hin : lo.toInt ≤ m.2.1.toInt) : ∀ i, i ≤ q →
    ksum (fun j => if hit m (loS ks q j) (hiS ks q j) = true then (rqk h (slc ks q j) (goP (loS ks q j) (hiS ks q j) m) - 8) + 4 * cut1 (loS ks q j) (hiS ks q j) m else 0) (List.range i) + (if m.2.2.1.toInt ≤ bS ks q lo i then 8 else if m.2.1.toInt ≤ bS ks q lo i then 4 else 0) ≤ rqk h (ks.take (ks.length * i / q)) m := by
  intro i
  have ok1 := ok.1
  rw [i_le] at ok1
  induction i with
  | zero =>
    intro _
    rw [List.range_zero, ksum_nil, if_neg (by show ¬ _ ≤ lo.toInt - 1; omega), if_neg (by show ¬ _ ≤ lo.toInt - 1; omega)]
    exact Nat.zero_le _
  | succ i ih =>
    intro hi'
    have ih := ih (by omega)
    obtain ⟨s1, s2, s3, s4⟩ := (bS_all hch hq hq4 i (by omega)).2.2 (by omega)
    have hws : wfK (slc ks q i) := fun c hc => hwf c (List.mem_of_mem_take (List.mem_of_mem_drop hc))
    rw [rsum_succ, ← slc_cat, rqk_app]
    have eg : rqk h (slc ks q i) (goP (loS ks q i) (hiS ks q i) m) = rqk h (slc ks q i) m := rqk_cong s4 hws (fun lo' hi9 z1 z2 z3 => by
      rw [hit_iff, hit_iff, goP_at.1, goP_at.2]
      omega)
    by_cases hh : hit m (loS ks q i) (hiS ks q i) = true
    · have hh' := hit_iff.mp hh
      rw [if_pos hh, eg]
      have h8 : 8 ≤ rqk h (slc ks q i) m := by
        by_cases e : (loS ks q i).toInt ≤ m.2.1.toInt
        · exact rqk_ge s4 hws ok (x := m.2.1) (Int.le_refl _) ok1 (by omega) (by omega)
        · exact rqk_ge s4 hws ok (x := loS ks q i) (by omega) hh'.2 (by omega) (by omega)
      have hcut : cut1 (loS ks q i) (hiS ks q i) m = if mWi_b m (loS ks q i) (hiS ks q i) = true then 0 else 1 := by unfold cut1; rw [if_pos hh]
      by_cases hw : mWi_b m (loS ks q i) (hiS ks q i) = true
      · have hw' := mWi_iff.mp hw
        unfold mWi at hw'
        rw [i_le, i_le] at hw'
        rw [hcut, if_pos hw, if_pos (show m.2.2.1.toInt ≤ bS ks q lo (i + 1) by omega)]
        omega
      · have hw' : ¬ ((loS ks q i).toInt ≤ m.2.1.toInt ∧ m.2.2.1.toInt ≤ (hiS ks q i).toInt) := fun z => hw (mWi_iff.mpr ⟨by rw [i_le]; exact z.1, by rw [i_le]; exact z.2⟩)
        rw [hcut, if_neg hw]
        by_cases e1 : m.2.1.toInt ≤ bS ks q lo i
        · rw [if_neg (show ¬ m.2.2.1.toInt ≤ bS ks q lo i by omega), if_pos e1] at ih
          split
          · omega
          · split <;> omega
        · rw [if_neg (show ¬ m.2.2.1.toInt ≤ bS ks q lo (i + 1) by omega), if_pos (show m.2.1.toInt ≤ bS ks q lo (i + 1) by omega)]
          omega
    · have hh' : ¬ (m.2.1.toInt ≤ (hiS ks q i).toInt ∧ (loS ks q i).toInt ≤ m.2.2.1.toInt) := fun z => hh (hit_iff.mpr z)
      rw [if_neg hh]
      by_cases e1 : m.2.2.1.toInt ≤ bS ks q lo i
      · rw [if_pos e1] at ih
        rw [if_pos (show m.2.2.1.toInt ≤ bS ks q lo (i + 1) by omega)]
        omega
      · rw [if_neg (show ¬ m.2.2.1.toInt ≤ bS ks q lo (i + 1) by omega), if_neg (show ¬ m.2.1.toInt ≤ bS ks q lo (i + 1) by omega)]
        omega
variable {ls : List (Nat × Msg)} {now : Int32} {ns : List (Kid (h + 1))}
theorem np_xs (hch : chn lo.toInt hi.toInt ks) (hwf : wfK ks) (hq : 0 < q) (hq4 : 4 * q ≤ ks.length) (hls : lsOk lo hi ls) :
    ksum (fun j => xs h (slc ks q j) (goL (loS ks q j) (hiS ks q j) (ls.map (·.2)))) (List.range q) + 4 * NC ks q (ls.map (·.2)) q ≤ xs h ks (ls.map (·.2)) := by
  have hfull : ks.take (ks.length * q / q) = ks := by rw [Nat.mul_div_cancel _ hq, List.take_length]
  have e1 : ∀ j, xs h (slc ks q j) (goL (loS ks q j) (hiS ks q j) (ls.map (·.2))) + 4 * cutN (loS ks q j) (hiS ks q j) (ls.map (·.2)) = ksum (fun m => (if hit m (loS ks q j) (hiS ks q j) = true then xm h (slc ks q j) (goP (loS ks q j) (hiS ks q j) m) else 0) + 4 * cut1 (loS ks q j) (hiS ks q j) m) (ls.map (·.2)) := by
    intro j
    generalize ls.map (·.2) = ms
    induction ms with
    | nil => rfl
    | cons m t iht =>
      rw [ksum_cons, ← iht]
      have a1 : cutN (loS ks q j) (hiS ks q j) (m :: t) = cut1 (loS ks q j) (hiS ks q j) m + cutN (loS ks q j) (hiS ks q j) t := ksum_cons
      have a2 : xs h (slc ks q j) (goL (loS ks q j) (hiS ks q j) (m :: t)) = (if hit m (loS ks q j) (hiS ks q j) = true then xm h (slc ks q j) (goP (loS ks q j) (hiS ks q j) m) else 0) + xs h (slc ks q j) (goL (loS ks q j) (hiS ks q j) t) := by
        by_cases e : hit m (loS ks q j) (hiS ks q j) = true
        · rw [if_pos e, show goL (loS ks q j) (hiS ks q j) (m :: t) = goP (loS ks q j) (hiS ks q j) m :: goL (loS ks q j) (hiS ks q j) t by simp [goL, e]]
          exact ksum_cons
        · rw [if_neg e, show goL (loS ks q j) (hiS ks q j) (m :: t) = goL (loS ks q j) (hiS ks q j) t by simp [goL, e]]
          omega
      omega
  have e2 : ∀ i, ksum (fun j => xs h (slc ks q j) (goL (loS ks q j) (hiS ks q j) (ls.map (·.2)))) (List.range i) + 4 * NC ks q (ls.map (·.2)) i = ksum (fun j => ksum (fun m => (if hit m (loS ks q j) (hiS ks q j) = true then xm h (slc ks q j) (goP (loS ks q j) (hiS ks q j) m) else 0) + 4 * cut1 (loS ks q j) (hiS ks q j) m) (ls.map (·.2))) (List.range i) := by
    intro i
    induction i with
    | zero => rfl
    | succ i ihi =>
      rw [rsum_succ, rsum_succ, NC_succ, ← ihi, ← e1]
      omega
  rw [e2, ksum_swap]
  unfold xs
  refine ksum_le (fun m hm => ?_)
  obtain ⟨qq, hqq, rfl⟩ := List.mem_map.mp hm
  obtain ⟨ok, b1, b2⟩ := hls qq hqq
  rw [i_le] at b1 b2
  cases hr : isR qq.2 with
  | false =>
    have : ksum (fun j => (if hit qq.2 (loS ks q j) (hiS ks q j) = true then xm h (slc ks q j) (goP (loS ks q j) (hiS ks q j) qq.2) else 0) + 4 * cut1 (loS ks q j) (hiS ks q j) qq.2) (List.range q) = 0 := by
      refine ksum_zero (fun j _ => ?_)
      unfold xm cut1
      have hg : isR (goP (loS ks q j) (hiS ks q j) qq.2) = false := hr
      rw [if_neg (show ¬ isR (goP (loS ks q j) (hiS ks q j) qq.2) = true by rw [hg]; decide)]
      by_cases hh : hit qq.2 (loS ks q j) (hiS ks q j) = true
      · rw [if_pos hh, if_pos hh, if_pos (mWi_iff.mpr (one_in ok hr hh))]
      · rw [if_neg hh, if_neg hh]
    rw [this]
    exact Nat.zero_le _
  | true =>
    have hr2 := np_rng hch hwf hq hq4 ok b1 q (Nat.le_refl _)
    rw [hfull, if_pos (by rw [bS_end hch hq hq4]; exact b2)] at hr2
    have : ksum (fun j => (if hit qq.2 (loS ks q j) (hiS ks q j) = true then xm h (slc ks q j) (goP (loS ks q j) (hiS ks q j) qq.2) else 0) + 4 * cut1 (loS ks q j) (hiS ks q j) qq.2) (List.range q) = ksum (fun j => if hit qq.2 (loS ks q j) (hiS ks q j) = true then (rqk h (slc ks q j) (goP (loS ks q j) (hiS ks q j) qq.2) - 8) + 4 * cut1 (loS ks q j) (hiS ks q j) qq.2 else 0) (List.range q) := by
      refine ksum_eq (fun j _ => ?_)
      have hg : isR (goP (loS ks q j) (hiS ks q j) qq.2) = true := hr
      unfold xm
      rw [if_pos hg]
      by_cases hh : hit qq.2 (loS ks q j) (hiS ks q j) = true
      · rw [if_pos hh, if_pos hh]
      · rw [if_neg hh, if_neg hh]
        unfold cut1
        rw [if_neg hh]
    rw [this]
    unfold xm
    rw [if_pos hr]
    omega
theorem np_puts (hch : chn lo.toInt hi.toInt ks) (hq : 0 < q) (hq4 : 4 * q ≤ ks.length) (hls : lsOk lo hi ls) :
    ksum (fun j => pM (goL (loS ks q j) (hiS ks q j) (ls.map (·.2)))) (List.range q) ≤ pM (ls.map (·.2)) := by
  have e1 : ∀ j, pM (goL (loS ks q j) (hiS ks q j) (ls.map (·.2))) = ksum (fun m => if isR m = true then 0 else if hit m (loS ks q j) (hiS ks q j) = true then 1 else 0) (ls.map (·.2)) := by
    intro j
    generalize ls.map (·.2) = ms
    induction ms with
    | nil => rfl
    | cons m t iht =>
      rw [ksum_cons, ← iht]
      by_cases e : hit m (loS ks q j) (hiS ks q j) = true
      · rw [show goL (loS ks q j) (hiS ks q j) (m :: t) = goP (loS ks q j) (hiS ks q j) m :: goL (loS ks q j) (hiS ks q j) t by simp [goL, e], if_pos e]
        have hg : isR (goP (loS ks q j) (hiS ks q j) m) = isR m := rfl
        unfold pM
        rw [List.countP_cons, hg]
        cases isR m <;> simp <;> omega
      · rw [show goL (loS ks q j) (hiS ks q j) (m :: t) = goL (loS ks q j) (hiS ks q j) t by simp [goL, e], if_neg e]
        cases isR m <;> simp
  have e2 : ksum (fun j => pM (goL (loS ks q j) (hiS ks q j) (ls.map (·.2)))) (List.range q) = ksum (fun j => ksum (fun m => if isR m = true then 0 else if hit m (loS ks q j) (hiS ks q j) = true then 1 else 0) (ls.map (·.2))) (List.range q) := ksum_eq (fun j _ => e1 j)
  have e3 : pM (ls.map (·.2)) = ksum (fun m => if isR m = true then 0 else 1) (ls.map (·.2)) := by
    generalize ls.map (·.2) = ms
    induction ms with
    | nil => rfl
    | cons m t iht =>
      rw [ksum_cons, ← iht]
      unfold pM
      rw [List.countP_cons]
      cases isR m <;> simp <;> omega
  rw [e2, ksum_swap, e3]
  refine ksum_le (fun m hm => ?_)
  obtain ⟨qq, hqq, rfl⟩ := List.mem_map.mp hm
  obtain ⟨ok, b1, b2⟩ := hls qq hqq
  cases hr : isR qq.2 with
  | true =>
    rw [ksum_zero (fun j _ => by rw [if_pos rfl])]
    exact Nat.zero_le _
  | false =>
    have h1 := np_one hch hq hq4 ok hr q (Nat.le_refl _)
    have : ksum (fun j => if false = true then 0 else if hit qq.2 (loS ks q j) (hiS ks q j) = true then 1 else 0) (List.range q) = ksum (fun j => if hit qq.2 (loS ks q j) (hiS ks q j) = true then 1 else 0) (List.range q) := ksum_eq (fun j _ => by rw [if_neg (by decide)])
    rw [this, if_neg (by decide)]
    refine Nat.le_trans h1 ?_
    split <;> omega
end NFO
