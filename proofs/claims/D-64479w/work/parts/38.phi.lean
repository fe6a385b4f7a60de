/-! PURE: credits that a tree may still want; pieces of messages -/
set_option maxRecDepth 100000
def hit (m : Msg) (lo hi : Int32) : Bool := decide (m.2.1 ≤ hi) && decide (lo ≤ m.2.2.1)
theorem hit_iff {m : Msg} {lo hi : Int32} : hit m lo hi = true ↔ m.2.1.toInt ≤ hi.toInt ∧ lo.toInt ≤ m.2.2.1.toInt := by
  unfold hit
  rw [Bool.and_eq_true, decide_eq_true_iff, decide_eq_true_iff, i_le, i_le]
theorem hit_in {m : Msg} {lo hi : Int32} : hit m lo hi = true ↔ mIn m lo hi := by
  rw [hit_iff]
  unfold mIn
  rw [i_le, i_le]
def kidsN {X : Type} : Nd X → List (Int32 × Int32 × X)
  | (_, _, ks, _, _, _) => ks
/-- what a message of ranges has before it in a child -/
def rq : (h : Nat) → Kid h → Msg → Nat
  | 0, c, m => if hit m c.1 c.2.1 = true then 8 else 0
  | h + 1, c, m => (if hit m c.1 c.2.1 = true then 4 else 0) + ksum (fun c' => rq h c' m) (kidsN (X := PT h) c.2.2)
def rqk (h : Nat) (ks : List (Kid h)) (m : Msg) : Nat := ksum (fun c => rq h c m) ks
/-- credit for pages and messages of one key -/
def pgL (now : Int32) : Lf → Nat
  | (_, o, row, c) => (if o = now then 8 * max 8 row.length - 4 * c else 37 + 8 * (max 8 row.length - 8)) + 27 * (max 8 row.length - 8)
def pgO (now o : Int32) (M c1 c2 : Nat) : Nat := (if o = now then (8 * M - 4 * c1) + (96 - 2 * c2) else 104 + 8 * M) + 104 * (max 4 M - 4)
def pgN {X : Type} (now : Int32) (h : Nat) (f : X → Nat) : Nd X → Nat
  | (_, o, ks, ls, c1, c2) => pgO now o ks.length c1 c2 + (39 + 4 * h) * puts ls + ksum (fun c => f c.2.2) ks
def Pg (now : Int32) : (h : Nat) → PT h → Nat
  | 0, t => pgL now t
  | h + 1, t => pgN now h (Pg now h) t
/-- credit for cutting messages of ranges -/
def xl (h : Nat) (ks : List (Kid h)) (q : Nat × Msg) : Nat := if isR q.2 = true then rqk h ks q.2 - 8 else 0
def xrN (h : Nat) (f : PT h → Nat) : Nd (PT h) → Nat
  | (_, _, ks, ls, _, _) => ksum (xl h ks) ls + ksum (fun c => f c.2.2) ks
def Xr : (h : Nat) → PT h → Nat
  | 0, _ => 0
  | h + 1, t => xrN h (Xr h) t
/-- credit of messages that come to a child -/
def incX (h : Nat) (c : Kid h) (q : Nat × Msg) : Nat := if isR q.2 = true then rq h c q.2 - 8 else 0
def inc (h : Nat) (c : Kid h) (ms : List (Nat × Msg)) : Nat := ksum (incX h c) ms + (39 + 4 * h) * puts ms
theorem rq_hit : ∀ (h : Nat) (c : Kid h) (m : Msg) (lo hi : Int32), Wf h c.2.2 lo hi → c.1 = lo → c.2.1 = hi → lo.toInt ≤ hi.toInt → okM m → hit m lo hi = true → 8 ≤ rq h c m := by
  intro h
  induction h with
  | zero =>
    intro c m lo hi _ e1 e2 _ _ hh
    subst e1; subst e2
    show 8 ≤ (if _ then 8 else 0)
    rw [if_pos hh]
    exact Nat.le_refl _
  | succ h ih =>
    rintro ⟨lo', hi', ⟨p, cp, cl⟩, o, ks, ls, c1, c2⟩ m lo hi hw e1 e2 hle ok hh
    dsimp only at e1 e2
    subst e1; subst e2
    obtain ⟨w1, w2, w3, w4, w5, w6, w7, w8, w9, w10⟩ := hw
    show 8 ≤ (if _ then 4 else 0) + ksum (fun c' => rq h c' m) ks
    -- the key max from lo
    have hm := ok.1
    rw [i_le] at hm
    have hh' := hit_iff.mp hh
    by_cases e : lo'.toInt ≤ m.2.1.toInt
    · obtain ⟨c, hc, -, q1, q2⟩ := w3.find (x := m.2.1) e (by omega)
      have := ih c m c.1 c.2.1 (w10 c hc) rfl rfl (w3.mem c hc).2.1 ok (hit_iff.mpr ⟨by omega, by omega⟩)
      have := ksum_mem (f := fun c' => rq h c' m) hc
      omega
    · obtain ⟨c, hc, -, q1, q2⟩ := w3.find (x := lo') (Int.le_refl _) hle
      have := ih c m c.1 c.2.1 (w10 c hc) rfl rfl (w3.mem c hc).2.1 ok (hit_iff.mpr ⟨by omega, by omega⟩)
      have := ksum_mem (f := fun c' => rq h c' m) hc
      omega
/-- two messages that hit the same parts want the same -/
theorem rq_cong : ∀ (h : Nat) (c : Kid h) (m m' : Msg), Wf h c.2.2 c.1 c.2.1 → c.1.toInt ≤ c.2.1.toInt → (∀ lo hi : Int32, c.1.toInt ≤ lo.toInt → hi.toInt ≤ c.2.1.toInt → lo.toInt ≤ hi.toInt → (hit m lo hi = true ↔ hit m' lo hi = true)) → rq h c m = rq h c m' := by
  intro h
  induction h with
  | zero =>
    intro c m m' _ hle hh
    show (if _ then 8 else 0) = (if _ then 8 else 0)
    have := hh c.1 c.2.1 (Int.le_refl _) (Int.le_refl _) hle
    by_cases e : hit m c.1 c.2.1 = true
    · rw [if_pos e, if_pos (this.mp e)]
    · rw [if_neg e, if_neg (fun z => e (this.mpr z))]
  | succ h ih =>
    rintro ⟨lo', hi', ⟨p, cp, cl⟩, o, ks, ls, c1, c2⟩ m m' hw hle hh
    obtain ⟨w1, w2, w3, w4, w5, w6, w7, w8, w9, w10⟩ := hw
    show (if hit m lo' hi' = true then 4 else 0) + ksum (fun c' => rq h c' m) ks = (if hit m' lo' hi' = true then 4 else 0) + ksum (fun c' => rq h c' m') ks
    dsimp only at hle hh w3
    have e1 : (if hit m lo' hi' = true then 4 else 0) = (if hit m' lo' hi' = true then 4 else 0) := by
      have := hh lo' hi' (Int.le_refl _) (Int.le_refl _) hle
      by_cases e : hit m lo' hi' = true
      · rw [if_pos e, if_pos (this.mp e)]
      · rw [if_neg e, if_neg (fun z => e (this.mpr z))]
    rw [e1]
    congr 1
    refine ksum_eq (fun c hc => ?_)
    have hm := w3.mem c hc
    exact ih c m m' (w10 c hc) hm.2.1 (fun lo hi h1 h2 h3 => hh lo hi (by omega) (by omega) h3)
theorem rq_out : ∀ (h : Nat) (c : Kid h) (m : Msg), Wf h c.2.2 c.1 c.2.1 → c.1.toInt ≤ c.2.1.toInt → hit m c.1 c.2.1 = false → rq h c m = 0 := by
  intro h
  induction h with
  | zero =>
    intro c m _ _ hh
    show (if _ then 8 else 0) = 0
    rw [if_neg (by rw [hh]; decide)]
  | succ h ih =>
    rintro ⟨lo', hi', ⟨p, cp, cl⟩, o, ks, ls, c1, c2⟩ m hw hle hh
    obtain ⟨w1, w2, w3, w4, w5, w6, w7, w8, w9, w10⟩ := hw
    dsimp only at hle hh w3
    show (if hit m lo' hi' = true then 4 else 0) + ksum (fun c' => rq h c' m) ks = 0
    rw [if_neg (by rw [hh]; decide)]
    have : ksum (fun c' => rq h c' m) ks = ksum (fun _ => 0) ks := ksum_eq (fun c hc => by
      have hm := w3.mem c hc
      refine ih c m (w10 c hc) hm.2.1 ?_
      have h1 : ¬ hit m lo' hi' = true := by rw [hh]; decide
      cases hx : hit m c.1 c.2.1 with
      | false => rfl
      | true =>
        rw [hit_iff] at hx h1
        exfalso
        omega)
    rw [this]
    have : ∀ l : List (Kid h), ksum (fun _ => 0) l = 0 := by
      intro l
      induction l with
      | nil => rfl
      | cons c t ih => rw [ksum_cons, ih]
    rw [this]
/-! the pieces of a message for a child -/
def goP (lo hi : Int32) (m : Msg) : Msg := mcut m lo hi
def leP (lo : Int32) (m : Msg) : Msg := mcut m m.2.1 (lo - 1)
def riP (hi : Int32) (m : Msg) : Msg := mcut m (hi + 1) m.2.2.1
/-- what stays of it -/
def stP (lo hi : Int32) (m : Msg) : List Msg := if hit m lo hi = true then (if m.2.1 < lo then [leP lo m] else []) ++ (if hi < m.2.2.1 then [riP hi m] else []) else [m]
def goL (lo hi : Int32) (ms : List Msg) : List Msg := (ms.filter (fun m => hit m lo hi)).map (goP lo hi)
def stL (lo hi : Int32) (ms : List Msg) : List Msg := ms.flatMap (stP lo hi)
theorem i_pred {x y : Int32} (h : y.toInt < x.toInt) : (x - 1).toInt = x.toInt - 1 := by
  have h1 := x.toInt_lt
  have h2 := y.le_toInt
  have := Kit.i32_sub (x := x) (y := 1) (show -2 ^ 31 ≤ x.toInt - 1 by omega) (show x.toInt - 1 < 2 ^ 31 by omega)
  rw [this]
  rfl
theorem i_next {x y : Int32} (h : x.toInt < y.toInt) : (x + 1).toInt = x.toInt + 1 := by
  refine i_succ (fun e => ?_)
  rw [e, max_int] at h
  have := le_max (x := y)
  omega
theorem leP_at {lo : Int32} {m : Msg} (h : m.2.1 < lo) (hl : lo.toInt ≤ m.2.2.1.toInt) : (leP lo m).2.1.toInt = m.2.1.toInt ∧ (leP lo m).2.2.1.toInt = lo.toInt - 1 := by
  rw [i_lt] at h
  refine ⟨?_, ?_⟩
  · show (imax m.2.1 m.2.1).toInt = _
    rw [imax_int]; omega
  · show (imin m.2.2.1 (lo - 1)).toInt = _
    rw [imin_int, i_pred h]; omega
theorem riP_at {hi : Int32} {m : Msg} (h : hi < m.2.2.1) (hl : m.2.1.toInt ≤ hi.toInt) : (riP hi m).2.1.toInt = hi.toInt + 1 ∧ (riP hi m).2.2.1.toInt = m.2.2.1.toInt := by
  rw [i_lt] at h
  refine ⟨?_, ?_⟩
  · show (imax m.2.1 (hi + 1)).toInt = _
    rw [imax_int, i_next h]; omega
  · show (imin m.2.2.1 m.2.2.1).toInt = _
    rw [imin_int]; omega
theorem goP_at {lo hi : Int32} {m : Msg} : (goP lo hi m).2.1.toInt = max m.2.1.toInt lo.toInt ∧ (goP lo hi m).2.2.1.toInt = min m.2.2.1.toInt hi.toInt := ⟨imax_int, imin_int⟩
/-- the pieces of one message: their range, and that they are as it is elsewhere -/
theorem stP_mem {lo hi : Int32} {m p : Msg} (hm : okM m) (hlh : lo.toInt ≤ hi.toInt) (hp : p ∈ stP lo hi m) : p.1 = m.1 ∧ p.2.2.2 = m.2.2.2 ∧ okM p ∧ m.2.1.toInt ≤ p.2.1.toInt ∧ p.2.2.1.toInt ≤ m.2.2.1.toInt ∧ hit p lo hi = false := by
  have hm0 := hm
  obtain ⟨hm1, hm2⟩ := hm
  rw [i_le] at hm1
  unfold stP at hp
  split at hp
  · next hh =>
    have hh' := hit_iff.mp hh
    have hR : ∀ p : Msg, p.1 = m.1 → isR p = isR m := fun p h => by unfold isR; rw [h]
    rcases List.mem_append.mp hp with hp | hp
    · split at hp
      · next hl =>
        rw [List.mem_singleton.mp hp]
        obtain ⟨q1, q2⟩ := leP_at hl hh'.2
        rw [i_lt] at hl
        refine ⟨rfl, rfl, ⟨?_, fun hr => ?_⟩, by omega, by omega, ?_⟩
        · rw [i_le]; omega
        · have := hm2 hr
          rw [i_eq] at this
          omega
        · cases hx : hit (leP lo m) lo hi with
          | false => rfl
          | true => have := hit_iff.mp hx; omega
      · cases hp
    · split at hp
      · next hl =>
        rw [List.mem_singleton.mp hp]
        obtain ⟨q1, q2⟩ := riP_at hl hh'.1
        rw [i_lt] at hl
        refine ⟨rfl, rfl, ⟨?_, fun hr => ?_⟩, by omega, by omega, ?_⟩
        · rw [i_le]; omega
        · have := hm2 hr
          rw [i_eq] at this
          omega
        · cases hx : hit (riP hi m) lo hi with
          | false => rfl
          | true => have := hit_iff.mp hx; omega
      · cases hp
  · next hh =>
    rw [List.mem_singleton.mp hp]
    refine ⟨rfl, rfl, hm0, Int.le_refl _, Int.le_refl _, ?_⟩
    cases hx : hit m lo hi with
    | false => rfl
    | true => exact absurd hx hh
/-- a message of one key that hits lies within -/
theorem one_in {lo hi : Int32} {m : Msg} (hm : okM m) (hr : isR m = false) (hh : hit m lo hi = true) : mWi m lo hi := by
  have := hm.2 hr
  rw [i_eq] at this
  have h1 := hit_iff.mp hh
  exact ⟨by rw [i_le]; omega, by rw [i_le]; omega⟩
theorem stP_one {lo hi : Int32} {m : Msg} (hm : okM m) (hr : isR m = false) (hh : hit m lo hi = true) : stP lo hi m = [] := by
  obtain ⟨h1, h2⟩ := one_in hm hr hh
  rw [i_le] at h1 h2
  unfold stP
  rw [if_pos hh, if_neg (by rw [i_lt]; omega), if_neg (by rw [i_lt]; omega)]
  rfl
/-- on a part beside the child, the pieces do as the message -/
theorem stP_hits {lo hi lo' hi' : Int32} {m : Msg} (hm : okM m) (hlh : lo.toInt ≤ hi.toInt) (hl' : lo'.toInt ≤ hi'.toInt) (hd : hi'.toInt < lo.toInt ∨ hi.toInt < lo'.toInt) : (stP lo hi m).countP (fun p => hit p lo' hi') = if hit m lo' hi' = true then 1 else 0 := by
  have hm1 := hm.1
  rw [i_le] at hm1
  unfold stP
  by_cases hh : hit m lo hi = true
  · rw [if_pos hh, List.countP_append]
    have hh' := hit_iff.mp hh
    have e1 : List.countP (fun p => hit p lo' hi') (if m.2.1 < lo then [leP lo m] else []) = if (hit m lo' hi' = true ∧ hi'.toInt < lo.toInt) then 1 else 0 := by
      by_cases hl : m.2.1 < lo
      · rw [if_pos hl, List.countP_singleton]
        obtain ⟨q1, q2⟩ := leP_at hl hh'.2
        have : hit (leP lo m) lo' hi' = true ↔ (hit m lo' hi' = true ∧ hi'.toInt < lo.toInt) := by
          rw [hit_iff, hit_iff]; omega
        by_cases e : hit (leP lo m) lo' hi' = true
        · rw [if_pos e, if_pos (this.mp e)]
        · rw [if_neg e, if_neg (fun z => e (this.mpr z))]
      · rw [if_neg hl, if_neg]
        · rfl
        · rintro ⟨h1, h2⟩
          rw [i_lt] at hl
          have := hit_iff.mp h1
          omega
    have e2 : List.countP (fun p => hit p lo' hi') (if hi < m.2.2.1 then [riP hi m] else []) = if (hit m lo' hi' = true ∧ hi.toInt < lo'.toInt) then 1 else 0 := by
      by_cases hl : hi < m.2.2.1
      · rw [if_pos hl, List.countP_singleton]
        obtain ⟨q1, q2⟩ := riP_at hl hh'.1
        have : hit (riP hi m) lo' hi' = true ↔ (hit m lo' hi' = true ∧ hi.toInt < lo'.toInt) := by
          rw [hit_iff, hit_iff]; omega
        by_cases e : hit (riP hi m) lo' hi' = true
        · rw [if_pos e, if_pos (this.mp e)]
        · rw [if_neg e, if_neg (fun z => e (this.mpr z))]
      · rw [if_neg hl, if_neg]
        · rfl
        · rintro ⟨h1, h2⟩
          rw [i_lt] at hl
          have := hit_iff.mp h1
          omega
    rw [e1, e2]
    by_cases e : hit m lo' hi' = true
    · rw [if_pos e]
      rcases hd with hd | hd
      · rw [if_pos ⟨e, hd⟩, if_neg (by rintro ⟨-, h⟩; omega)]
      · rw [if_neg (by rintro ⟨-, h⟩; omega), if_pos ⟨e, hd⟩]
    · rw [if_neg e, if_neg (fun z => e z.1), if_neg (fun z => e z.1)]
  · rw [if_neg hh, List.countP_singleton]
