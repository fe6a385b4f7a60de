/-! PURE: the leaves that a long row becomes -/
set_option maxRecDepth 100000
theorem chn_of {X : Type} : ∀ {l : List (Int32 × Int32 × X)} {a b : Int}, l ≠ [] → (∀ c, l[0]? = some c → c.1.toInt = a) → (∀ c ∈ l, c.1.toInt ≤ c.2.1.toInt) → (∀ (j : Nat) c c', l[j]? = some c → l[j + 1]? = some c' → c'.1.toInt = c.2.1.toInt + 1) → (∀ c, l[l.length - 1]? = some c → c.2.1.toInt = b) → chn a b l := by
  intro l
  induction l with
  | nil => intro a b h; exact absurd rfl h
  | cons q t ih =>
    intro a b _ h0 hle hn hl
    refine ⟨h0 q rfl, hle q List.mem_cons_self, ?_⟩
    cases t with
    | nil =>
      have := hl q rfl
      show _ = b + 1
      omega
    | cons q2 t2 =>
      refine ih (by simp) (fun c hc => ?_) (fun c hc => hle c (List.mem_cons_of_mem _ hc)) (fun j c c' h1 h2 => hn (j + 1) c c' h1 h2) (fun c hc => hl c ?_)
      · have : q2 = c := by simpa using hc
        subst this
        exact hn 0 q q2 rfl rfl
      · simpa using hc
section LF
variable {R : Prs} {q : Nat} {lo hi now : Int32} {ks : List (Kid 0)}
theorem lf_at (hs : srt R) (hin : ∀ p ∈ R, lo ≤ p.1 ∧ p.1 ≤ hi) (hq2 : 2 ≤ q) (hq8 : 8 * q ≤ R.length) (hk : lfs R q lo hi now ks) (hl : ks.length = q) {j : Nat} {c : Kid 0} (hc : ks[j]? = some c) :
    j < q ∧ c.1.toInt ≤ c.2.1.toInt ∧ (∀ i p, R[i]? = some p → i < R.length * j / q → p.1.toInt < c.1.toInt) ∧ (∀ i p, R[i]? = some p → R.length * (j + 1) / q ≤ i → c.2.1.toInt < p.1.toInt) ∧ (∀ i p, R[i]? = some p → R.length * j / q ≤ i → i < R.length * (j + 1) / q → c.1.toInt ≤ p.1.toInt ∧ p.1.toInt ≤ c.2.1.toInt) ∧ (j = 0 → c.1 = lo) ∧ (j + 1 = q → c.2.1 = hi) ∧ (j + 1 < q → ∀ p, R[R.length * (j + 1) / q]? = some p → p.1.toInt = c.2.1.toInt + 1) ∧ (0 < j → ∀ p, R[R.length * j / q]? = some p → p.1 = c.1) := by
  have hj : j < q := by have := (List.getElem?_eq_some_iff.mp hc).1; omega
  obtain ⟨e1, e2, p, r, e3⟩ := hk j c hc
  have b1 := sl_lo (m := R.length) (q := q) (j := j) (c := 8) (by omega) (by omega)
  have b3 := sl_top (m := R.length) (q := q) (j := j + 1) (by omega) (by omega)
  have b0 := sl_top (m := R.length) (q := q) (j := j) (by omega) (by omega)
  have full : R.length * q / q = R.length := Nat.mul_div_cancel _ (by omega)
  have hnext : ∀ (h : j + 1 ≠ q), ∃ p, R[R.length * (j + 1) / q]? = some p ∧ (p.1 - 1).toInt = p.1.toInt - 1 ∧ c.2.1 = p.1 - 1 := by
    intro h
    have b4 := sl_lo (m := R.length) (q := q) (j := j + 1) (c := 8) (by omega) (by omega)
    have b5 := sl_top (m := R.length) (q := q) (j := j + 2) (by omega) (by omega)
    have b6 : R.length * (j + 1 + 1) / q ≤ R.length := b5
    obtain ⟨p, hp⟩ := at_of (l := R) (j := R.length * (j + 1) / q) (by omega)
    obtain ⟨p0, hp0⟩ := at_of (l := R) (j := 0) (by omega)
    have hlt := srt_lt hs (show 0 < R.length * (j + 1) / q from Nat.lt_of_lt_of_le (Nat.zero_lt_succ 7) (Nat.le_trans (Nat.le_add_left 8 _) b1)) hp0 hp
    rw [i_lt] at hlt
    refine ⟨p, hp, i_pred hlt, ?_⟩
    rw [e2]
    unfold hiOf
    rw [if_neg h, getD_of hp]
  have hlow : j ≠ 0 → ∃ p, R[R.length * j / q]? = some p ∧ c.1 = p.1 := by
    intro h
    obtain ⟨p, hp⟩ := at_of (l := R) (j := R.length * j / q) (by omega)
    refine ⟨p, hp, ?_⟩
    rw [e1]
    unfold lowOf
    rw [if_neg h, getD_of hp]
  have hge : ∀ i p, R[i]? = some p → R.length * j / q ≤ i → c.1.toInt ≤ p.1.toInt := by
    intro i p hp hi'
    by_cases hj0 : j = 0
    · have : c.1 = lo := by rw [e1]; unfold lowOf; rw [if_pos hj0]
      rw [this]
      have := (hin p (List.mem_of_getElem? hp)).1
      rw [i_le] at this
      exact this
    · obtain ⟨p1, hp1, e4⟩ := hlow hj0
      rw [e4]
      rcases Nat.lt_or_ge (R.length * j / q) i with h | h
      · have := srt_lt hs h hp1 hp
        rw [i_lt] at this
        omega
      · have : i = R.length * j / q := by omega
        subst this
        rw [hp1] at hp
        cases hp
        exact Int.le_refl _
  have hle : ∀ i p, R[i]? = some p → i < R.length * (j + 1) / q → p.1.toInt ≤ c.2.1.toInt := by
    intro i p hp hi'
    by_cases hj0 : j + 1 = q
    · have : c.2.1 = hi := by rw [e2]; unfold hiOf; rw [if_pos hj0]
      rw [this]
      have := (hin p (List.mem_of_getElem? hp)).2
      rw [i_le] at this
      exact this
    · obtain ⟨p1, hp1, e4, e5⟩ := hnext hj0
      rw [e5, e4]
      have := srt_lt hs hi' hp hp1
      rw [i_lt] at this
      omega
  refine ⟨hj, ?_, ?_, ?_, fun i p hp h1 h2 => ⟨hge i p hp h1, hle i p hp h2⟩, ?_, ?_, ?_, ?_⟩
  · obtain ⟨p, hp⟩ := at_of (l := R) (j := R.length * j / q) (by omega)
    have := hge _ p hp (Nat.le_refl _)
    have := hle _ p hp (by omega)
    omega
  · intro i p hp hi'
    have hj0 : j ≠ 0 := fun e => by subst e; simp at hi'
    obtain ⟨p1, hp1, e4⟩ := hlow hj0
    rw [e4]
    have := srt_lt hs hi' hp hp1
    rw [i_lt] at this
    exact this
  · intro i p hp hi'
    have hj0 : j + 1 ≠ q := fun e => by
      rw [e, full] at hi'
      have := (List.getElem?_eq_some_iff.mp hp).1
      omega
    obtain ⟨p1, hp1, e4, e5⟩ := hnext hj0
    rw [e5, e4]
    rcases Nat.lt_or_ge (R.length * (j + 1) / q) i with h | h
    · have := srt_lt hs h hp1 hp
      rw [i_lt] at this
      omega
    · have : i = R.length * (j + 1) / q := by omega
      subst this
      rw [hp1] at hp
      cases hp
      omega
  · intro hj0
    rw [e1]; unfold lowOf; rw [if_pos hj0]
  · intro hj0
    rw [e2]; unfold hiOf; rw [if_pos hj0]
  · intro hj0 p hp
    obtain ⟨p1, hp1, e4, e5⟩ := hnext (by omega)
    rw [hp1] at hp
    cases hp
    rw [e5, e4]
    omega
  · intro hj0 p hp
    obtain ⟨p1, hp1, e4⟩ := hlow (by omega)
    rw [hp1] at hp
    cases hp
    exact e4.symm
theorem lforest (hs : srt R) (hin : ∀ p ∈ R, lo ≤ p.1 ∧ p.1 ≤ hi) (hq2 : 2 ≤ q) (hq8 : 8 * q ≤ R.length) (hq16 : R.length ≤ 16 * q) (hk : lfs R q lo hi now ks) (hl : ks.length = q) :
    chn lo.toInt hi.toInt ks ∧ wfK ks ∧ (∀ x : Int32, lo ≤ x → x ≤ hi → dnk (den 0) ks x = lkp R x) ∧ ksum (fun c : Kid 0 => wt 0 c.2.2) ks = R.length ∧ ksum (fun c : Kid 0 => Pg now 0 c.2.2) ks + 280 * q = 35 * R.length ∧ (∀ c ∈ ks, own1 0 c.2.2 = now) := by
  have hA := @lf_at R q lo hi now ks hs hin hq2 hq8 hk hl
  have hchn : chn lo.toInt hi.toInt ks := by
    refine chn_of (fun e => by rw [e] at hl; simp at hl; omega) (fun c hc => ?_) (fun c hc => ?_) (fun j c c' h1 h2 => ?_) (fun c hc => ?_)
    · rw [(hA hc).2.2.2.2.2.1 rfl]
    · obtain ⟨j, hj⟩ := mem_get.mp hc
      exact (hA hj).2.1
    · have a1 := hA h1
      have a2 := hA h2
      obtain ⟨p, hp⟩ := at_of (l := R) (j := R.length * (j + 1) / q) (by
        have := sl_lo (m := R.length) (q := q) (j := j + 1) (c := 8) (by omega) (by omega)
        have := sl_top (m := R.length) (q := q) (j := j + 1 + 1) (by omega) (by omega)
        omega)
      have := a1.2.2.2.2.2.2.2.1 a2.1 p hp
      have h3 := a2.2.2.2.2.2.2.2.2 (by omega) p hp
      rw [← h3]
      exact this
    · rw [(hA hc).2.2.2.2.2.2.1 (by omega)]
  have hlen : ∀ j, j < q → 8 ≤ (slc R q j).length ∧ (slc R q j).length ≤ 16 := by
    intro j hj
    rw [slc_len (by omega) hj]
    have b1 := sl_lo (m := R.length) (q := q) (j := j) (c := 8) (by omega) (by omega)
    have b2 := sl_hi (m := R.length) (q := q) (j := j) (c := 16) (by omega) (by omega)
    omega
  refine ⟨hchn, fun c hc => ?_, fun x h1 h2 => ?_, ?_, ?_, fun c hc => ?_⟩
  · obtain ⟨j, hj⟩ := mem_get.mp hc
    have a1 := hA hj
    obtain ⟨-, -, p, r, e3⟩ := hk j c hj
    rw [e3]
    have hll := hlen j a1.1
    have hsl := slc_len (R := R) (q := q) (j := j) (by omega) a1.1
    refine ⟨hs.take.drop, fun p hp => ?_, hll.2, ⟨0, rfl⟩, by decide⟩
    obtain ⟨i, hi'⟩ := mem_get.mp hp
    have hi2 := (List.getElem?_eq_some_iff.mp hi').1
    rw [slc_at (by omega)] at hi'
    have := a1.2.2.2.2.1 _ p hi' (by omega) (by omega)
    rw [i_le, i_le]
    exact this
  · rw [i_le] at h1 h2
    obtain ⟨c, hc, hf, h3, h4⟩ := hchn.find h1 h2
    obtain ⟨j, hj⟩ := mem_get.mp hc
    have a1 := hA hj
    obtain ⟨-, -, p, r, e3⟩ := hk j c hj
    unfold dnk
    rw [hf]
    dsimp only
    rw [e3]
    show lkp (slc R q j) x = lkp R x
    have hs2 : srt (slc R q j) := hs.take.drop
    have hsl := slc_len (R := R) (q := q) (j := j) (by omega) a1.1
    apply Option.ext
    intro v
    rw [lkp_iff hs2, lkp_iff hs]
    constructor
    · intro h; exact List.mem_of_mem_take (List.mem_of_mem_drop h)
    · intro h
      obtain ⟨i, hi'⟩ := mem_get.mp h
      have g1 : R.length * j / q ≤ i := Nat.le_of_not_lt (fun z => by have := a1.2.2.1 i _ hi' z; dsimp only at this; omega)
      have g2 : i < R.length * (j + 1) / q := Nat.lt_of_not_le (fun z => by have := a1.2.2.2.1 i _ hi' z; dsimp only at this; omega)
      refine mem_get.mpr ⟨i - R.length * j / q, ?_⟩
      rw [slc_at (by omega), show R.length * j / q + (i - R.length * j / q) = i by omega]
      exact hi'
  · have key0 : ∀ i, i ≤ q → ksum (fun c : Kid 0 => wt 0 c.2.2) (ks.take i) = R.length * i / q := by
      intro i
      induction i with
      | zero => intro _; simp [ksum_nil]
      | succ i ih =>
        intro hi'
        obtain ⟨c, hc⟩ := at_of (l := ks) (j := i) (by omega)
        obtain ⟨-, -, p, r, e3⟩ := hk i c hc
        rw [ksum_snoc hc, ih (by omega), e3]
        show _ + max 8 (slc R q i).length = _
        have := hlen i (by omega)
        have hsl := slc_len (R := R) (q := q) (j := i) (by omega) (by omega)
        have := sl_le (m := R.length) (q := q) (j := i)
        omega
    have := key0 q (Nat.le_refl _)
    rw [← hl, List.take_length, hl] at this
    rw [this]
    exact Nat.mul_div_cancel _ (by omega)
  · have key0 : ∀ i, i ≤ q → ksum (fun c : Kid 0 => Pg now 0 c.2.2) (ks.take i) + 280 * i = 35 * (R.length * i / q) := by
      intro i
      induction i with
      | zero => intro _; simp [ksum_nil]
      | succ i ih =>
        intro hi'
        obtain ⟨c, hc⟩ := at_of (l := ks) (j := i) (by omega)
        obtain ⟨-, -, p, r, e3⟩ := hk i c hc
        have i1 := ih (by omega)
        rw [ksum_snoc hc, e3]
        have e4 : Pg now 0 ((p, r), now, slc R q i, 16) = (8 * max 8 (slc R q i).length - 4 * 16) + 27 * (max 8 (slc R q i).length - 8) := by
          show (if now = now then _ else _) + _ = _
          rw [if_pos rfl]
        rw [e4]
        have := hlen i (by omega)
        have hsl := slc_len (R := R) (q := q) (j := i) (by omega) (by omega)
        have := sl_le (m := R.length) (q := q) (j := i)
        omega
    have := key0 q (Nat.le_refl _)
    rw [← hl, List.take_length, hl, Nat.mul_div_cancel _ (by omega)] at this
    exact this
  · obtain ⟨j, hj⟩ := mem_get.mp hc
    obtain ⟨-, -, p, r, e3⟩ := hk j c hj
    rw [e3]
    rfl
end LF
