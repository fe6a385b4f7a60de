/-! PURE: the credits of a sending -/
set_option maxRecDepth 100000
def wfK {h : Nat} (ks : List (Kid h)) : Prop := ∀ c ∈ ks, Wf h c.2.2 c.1 c.2.1
theorem ksum_zero {X : Type} {f : X → Nat} {l : List X} (h : ∀ c ∈ l, f c = 0) : ksum f l = 0 := by
  induction l with
  | nil => rfl
  | cons c t ih => rw [ksum_cons, h c List.mem_cons_self, ih (fun c hc => h c (List.mem_cons_of_mem _ hc))]
theorem ksum_map {X Y : Type} {f : Y → Nat} {g : X → Y} {l : List X} : ksum f (l.map g) = ksum (fun x => f (g x)) l := by
  unfold ksum
  rw [List.map_map]
  rfl
theorem rqk_app {h : Nat} {A B : List (Kid h)} {m : Msg} : rqk h (A ++ B) m = rqk h A m + rqk h B m := ksum_app
theorem rqk_cons {h : Nat} {c : Kid h} {B : List (Kid h)} {m : Msg} : rqk h (c :: B) m = rq h c m + rqk h B m := ksum_cons
theorem hit_false {m : Msg} {lo hi : Int32} (h : ¬ (m.2.1.toInt ≤ hi.toInt ∧ lo.toInt ≤ m.2.2.1.toInt)) : hit m lo hi = false := by
  cases hx : hit m lo hi with
  | false => rfl
  | true => exact absurd (hit_iff.mp hx) h
theorem rqk_out {h : Nat} {ks : List (Kid h)} {m : Msg} {a b : Int} (hk : chn a b ks) (hw : wfK ks) (hm : b < m.2.1.toInt ∨ m.2.2.1.toInt < a) : rqk h ks m = 0 := by
  refine ksum_zero (fun c hc => ?_)
  have := hk.mem c hc
  exact rq_out h c m (hw c hc) this.2.1 (hit_false (by omega))
theorem rqk_cong {h : Nat} {ks : List (Kid h)} {m m' : Msg} {a b : Int} (hk : chn a b ks) (hw : wfK ks) (hm : ∀ lo hi : Int32, a ≤ lo.toInt → hi.toInt ≤ b → lo.toInt ≤ hi.toInt → (hit m lo hi = true ↔ hit m' lo hi = true)) : rqk h ks m = rqk h ks m' := by
  refine ksum_eq (fun c hc => ?_)
  have h1 := hk.mem c hc
  exact rq_cong h c m m' (hw c hc) h1.2.1 (fun lo hi q1 q2 q3 => hm lo hi (by omega) (by omega) q3)
theorem rqk_ge {h : Nat} {ks : List (Kid h)} {m : Msg} {a b : Int} {x : Int32} (hk : chn a b ks) (hw : wfK ks) (ok : okM m) (h1 : m.2.1.toInt ≤ x.toInt) (h2 : x.toInt ≤ m.2.2.1.toInt) (h3 : a ≤ x.toInt) (h4 : x.toInt ≤ b) : 8 ≤ rqk h ks m := by
  obtain ⟨c, hc, -, q1, q2⟩ := hk.find h3 h4
  have := rq_hit h c m c.1 c.2.1 (hw c hc) rfl rfl (by omega) ok (hit_iff.mpr ⟨by omega, by omega⟩)
  have := ksum_mem (f := fun c => rq h c m) hc
  unfold rqk
  omega
/-- over messages alone -/
def xm (h : Nat) (ks : List (Kid h)) (m : Msg) : Nat := if isR m = true then rqk h ks m - 8 else 0
def xs (h : Nat) (ks : List (Kid h)) (ms : List Msg) : Nat := ksum (xm h ks) ms
def icM (h : Nat) (c : Kid h) (m : Msg) : Nat := if isR m = true then rq h c m - 8 else 0
def ic (h : Nat) (c : Kid h) (ms : List Msg) : Nat := ksum (icM h c) ms
def pM (ms : List Msg) : Nat := ms.countP (fun m => !isR m)
theorem xs_ls {h : Nat} {ks : List (Kid h)} {ls : List (Nat × Msg)} : ksum (xl h ks) ls = xs h ks (ls.map (·.2)) := (ksum_map (f := xm h ks) (g := fun q : Nat × Msg => q.2)).symm
theorem inc_ls {h : Nat} {c : Kid h} {ls : List (Nat × Msg)} : inc h c ls = ic h c (ls.map (·.2)) + (39 + 4 * h) * pM (ls.map (·.2)) := by
  unfold inc ic pM puts
  rw [ksum_map, List.countP_map]
  rfl
theorem puts_ls {ls : List (Nat × Msg)} : puts ls = pM (ls.map (·.2)) := by
  unfold puts pM
  rw [List.countP_map]
  rfl
/-- cells that are made for a message -/
def newC (lo hi : Int32) (m : Msg) : Nat := if hit m lo hi = true then (match (stP lo hi m).length with
  | 0 => 0
  | s + 1 => s + 2) else 0
def ex1 (lo hi : Int32) (m : Msg) : Nat := if hit m lo hi = true then (stP lo hi m).length - 1 else 0
theorem wi_st {lo hi : Int32} {m : Msg} (hh : hit m lo hi = true) : mWi m lo hi ↔ stP lo hi m = [] := by
  unfold stP mWi
  rw [if_pos hh]
  by_cases e1 : m.2.1 < lo
  · rw [if_pos e1]
    constructor
    · rintro ⟨h1, -⟩; rw [i_le] at h1; rw [i_lt] at e1; omega
    · intro h; simp at h
  · rw [if_neg e1]
    by_cases e2 : hi < m.2.2.1
    · rw [if_pos e2]
      constructor
      · rintro ⟨-, h1⟩; rw [i_le] at h1; rw [i_lt] at e2; omega
      · intro h; simp at h
    · rw [if_neg e2]
      constructor
      · intro _; rfl
      · intro _
        rw [i_le, i_le]
        rw [i_lt] at e1 e2
        omega
section SC
variable {h : Nat} {A B ts : List (Kid h)} {c : Kid h} {a b : Int}
theorem one_credit {m : Msg} (hk : chn a b (A ++ c :: B)) (ht : chn c.1.toInt c.2.1.toInt ts) (hwA : wfK A) (hwc : Wf h c.2.2 c.1 c.2.1) (hwB : wfK B) (hwt : wfK ts) (ok : okM m) (hin : a ≤ m.2.1.toInt ∧ m.2.2.1.toInt ≤ b) :
    xs h (A ++ (ts ++ B)) (stP c.1 c.2.1 m) + (if hit m c.1 c.2.1 = true then icM h c (goP c.1 c.2.1 m) else 0) + 4 * newC c.1 c.2.1 m + 4 * ex1 c.1 c.2.1 m ≤ xm h (A ++ c :: B) m := by
  obtain ⟨m0, k1, k2, k3, k4⟩ := chn.app.mp hk
  have ok1 := ok.1
  rw [i_le] at ok1
  by_cases hh : hit m c.1 c.2.1 = true
  · have hh' := hit_iff.mp hh
    cases hr : isR m with
    | false =>
      have hs := stP_one ok hr hh
      have hg : isR (goP c.1 c.2.1 m) = false := hr
      unfold newC ex1
      rw [if_pos hh, hs, if_pos hh, if_pos hh]
      unfold icM
      rw [if_neg (by rw [hg]; decide)]
      exact Nat.zero_le _
    | true =>
      have hg : isR (goP c.1 c.2.1 m) = true := hr
      have eg : rq h c (goP c.1 c.2.1 m) = rq h c m := by
        refine rq_cong h c _ m hwc k3 (fun lo hi q1 q2 q3 => ?_)
        rw [hit_iff, hit_iff, goP_at.1, goP_at.2]
        omega
      have e8 := rq_hit h c m c.1 c.2.1 hwc rfl rfl k3 ok hh
      unfold newC ex1
      rw [if_pos hh, if_pos hh, if_pos hh]
      unfold icM xm
      rw [if_pos hg, if_pos hr, eg, rqk_app, rqk_cons]
      have hL : ∀ hl : m.2.1 < c.1, rqk h (A ++ (ts ++ B)) (leP c.1 m) = rqk h A m ∧ 8 ≤ rqk h A m := by
        intro hl
        obtain ⟨q1, q2⟩ := leP_at hl hh'.2
        rw [i_lt] at hl
        have e1 : rqk h A (leP c.1 m) = rqk h A m := rqk_cong k1 hwA (fun lo hi z1 z2 z3 => by
          rw [hit_iff, hit_iff, q1, q2]; omega)
        have e2 : rqk h ts (leP c.1 m) = 0 := rqk_out ht hwt (by omega)
        have e3 : rqk h B (leP c.1 m) = 0 := rqk_out k4 hwB (by omega)
        refine ⟨by rw [rqk_app, rqk_app, e1, e2, e3]; omega, ?_⟩
        exact rqk_ge k1 hwA ok (x := m.2.1) (Int.le_refl _) ok1 hin.1 (by omega)
      have hRi : ∀ hl : c.2.1 < m.2.2.1, rqk h (A ++ (ts ++ B)) (riP c.2.1 m) = rqk h B m ∧ 8 ≤ rqk h B m := by
        intro hl
        obtain ⟨q1, q2⟩ := riP_at hl hh'.1
        rw [i_lt] at hl
        have e1 : rqk h B (riP c.2.1 m) = rqk h B m := rqk_cong k4 hwB (fun lo hi z1 z2 z3 => by
          rw [hit_iff, hit_iff, q1, q2]; omega)
        have e2 : rqk h ts (riP c.2.1 m) = 0 := rqk_out ht hwt (by omega)
        have e3 : rqk h A (riP c.2.1 m) = 0 := rqk_out k1 hwA (by omega)
        refine ⟨by rw [rqk_app, rqk_app, e1, e2, e3]; omega, ?_⟩
        exact rqk_ge k4 hwB ok (x := m.2.2.1) ok1 (Int.le_refl _) (by omega) hin.2
      have rl : isR (leP c.1 m) = true := hr
      have rr : isR (riP c.2.1 m) = true := hr
      by_cases h1 : m.2.1 < c.1
      · obtain ⟨a1, a2⟩ := hL h1
        by_cases h2 : c.2.1 < m.2.2.1
        · obtain ⟨b1, b2⟩ := hRi h2
          have hs : stP c.1 c.2.1 m = [leP c.1 m, riP c.2.1 m] := by
            unfold stP; rw [if_pos hh, if_pos h1, if_pos h2]; rfl
          rw [hs]
          unfold xs xm
          rw [ksum_cons, ksum_cons, ksum_nil, if_pos rl, if_pos rr, a1, b1]
          show _ + 4 * 3 + 4 * 1 ≤ _
          omega
        · have hs : stP c.1 c.2.1 m = [leP c.1 m] := by
            unfold stP; rw [if_pos hh, if_pos h1, if_neg h2]; rfl
          rw [hs]
          unfold xs xm
          rw [ksum_cons, ksum_nil, if_pos rl, a1]
          show _ + 4 * 2 + 4 * 0 ≤ _
          omega
      · by_cases h2 : c.2.1 < m.2.2.1
        · obtain ⟨b1, b2⟩ := hRi h2
          have hs : stP c.1 c.2.1 m = [riP c.2.1 m] := by
            unfold stP; rw [if_pos hh, if_neg h1, if_pos h2]; rfl
          rw [hs]
          unfold xs xm
          rw [ksum_cons, ksum_nil, if_pos rr, b1]
          show _ + 4 * 2 + 4 * 0 ≤ _
          omega
        · have hs : stP c.1 c.2.1 m = [] := by
            unfold stP; rw [if_pos hh, if_neg h1, if_neg h2]; rfl
          rw [hs]
          show 0 + _ + 4 * 0 + 4 * 0 ≤ _
          omega
  · have hs : stP c.1 c.2.1 m = [m] := by unfold stP; rw [if_neg hh]
    unfold newC ex1
    rw [if_neg hh, if_neg hh, if_neg hh, hs]
    unfold xs
    rw [ksum_cons, ksum_nil]
    have hf : hit m c.1 c.2.1 = false := by
      cases hx : hit m c.1 c.2.1 with
      | false => rfl
      | true => exact absurd hx hh
    have e1 : rqk h ts m = 0 := by
      refine rqk_out ht hwt ?_
      have : ¬ (m.2.1.toInt ≤ c.2.1.toInt ∧ c.1.toInt ≤ m.2.2.1.toInt) := fun z => hh (hit_iff.mpr z)
      omega
    have e2 := rq_out h c m hwc k3 hf
    unfold xm
    rw [rqk_app, rqk_app, rqk_app, rqk_cons, e1, e2]
    omega
def newCs (lo hi : Int32) (ms : List Msg) : Nat := ksum (newC lo hi) ms
def exs (lo hi : Int32) (ms : List Msg) : Nat := ksum (ex1 lo hi) ms
theorem send_credit (hk : chn a b (A ++ c :: B)) (ht : chn c.1.toInt c.2.1.toInt ts) (hwA : wfK A) (hwc : Wf h c.2.2 c.1 c.2.1) (hwB : wfK B) (hwt : wfK ts) : ∀ {ms : List Msg}, (∀ m ∈ ms, okM m ∧ a ≤ m.2.1.toInt ∧ m.2.2.1.toInt ≤ b) →
    xs h (A ++ (ts ++ B)) (stL c.1 c.2.1 ms) + ic h c (goL c.1 c.2.1 ms) + 4 * newCs c.1 c.2.1 ms + 4 * exs c.1 c.2.1 ms ≤ xs h (A ++ c :: B) ms := by
  intro ms
  induction ms with
  | nil => intro _; exact Nat.le_refl _
  | cons m t ih =>
    intro h1
    have i1 := ih (fun m hm => h1 m (List.mem_cons_of_mem _ hm))
    obtain ⟨ok, hin⟩ := h1 m List.mem_cons_self
    have i2 := one_credit hk ht hwA hwc hwB hwt ok hin
    have e1 : ic h c (goL c.1 c.2.1 (m :: t)) = (if hit m c.1 c.2.1 = true then icM h c (goP c.1 c.2.1 m) else 0) + ic h c (goL c.1 c.2.1 t) := by
      by_cases e : hit m c.1 c.2.1 = true
      · rw [if_pos e, show goL c.1 c.2.1 (m :: t) = goP c.1 c.2.1 m :: goL c.1 c.2.1 t by simp [goL, e]]
        exact ksum_cons
      · rw [if_neg e, show goL c.1 c.2.1 (m :: t) = goL c.1 c.2.1 t by simp [goL, e]]
        omega
    have e2 : xs h (A ++ (ts ++ B)) (stL c.1 c.2.1 (m :: t)) = xs h (A ++ (ts ++ B)) (stP c.1 c.2.1 m) + xs h (A ++ (ts ++ B)) (stL c.1 c.2.1 t) := by
      rw [stL_cons]; exact ksum_app
    have e3 : xs h (A ++ c :: B) (m :: t) = xm h (A ++ c :: B) m + xs h (A ++ c :: B) t := ksum_cons
    have e4 : newCs c.1 c.2.1 (m :: t) = newC c.1 c.2.1 m + newCs c.1 c.2.1 t := ksum_cons
    have e5 : exs c.1 c.2.1 (m :: t) = ex1 c.1 c.2.1 m + exs c.1 c.2.1 t := ksum_cons
    omega
end SC
theorem stP_puts {lo hi : Int32} {m : Msg} (ok : okM m) (hlh : lo.toInt ≤ hi.toInt) : pM (stP lo hi m) + (if hit m lo hi = true then (if isR m = true then 0 else 1) else 0) = (if isR m = true then 0 else 1) := by
  by_cases hh : hit m lo hi = true
  · rw [if_pos hh]
    cases hr : isR m with
    | false => rw [stP_one ok hr hh]; rfl
    | true =>
      have : pM (stP lo hi m) = 0 := by
        unfold pM
        rw [List.countP_eq_zero]
        intro p hp
        rw [stP_isR ok hlh hp, hr]
        decide
      rw [this]
      rfl
  · rw [if_neg hh]
    have hs : stP lo hi m = [m] := by unfold stP; rw [if_neg hh]
    rw [hs]
    unfold pM
    rw [List.countP_singleton]
    cases isR m <;> rfl
theorem send_puts {lo hi : Int32} (hlh : lo.toInt ≤ hi.toInt) : ∀ {ms : List Msg}, (∀ m ∈ ms, okM m) → pM (stL lo hi ms) + pM (goL lo hi ms) = pM ms := by
  intro ms
  induction ms with
  | nil => intro _; rfl
  | cons m t ih =>
    intro h1
    have i1 := ih (fun m hm => h1 m (List.mem_cons_of_mem _ hm))
    have i2 := stP_puts (h1 m List.mem_cons_self) hlh
    have e1 : pM (goL lo hi (m :: t)) = (if hit m lo hi = true then (if isR m = true then 0 else 1) else 0) + pM (goL lo hi t) := by
      by_cases e : hit m lo hi = true
      · rw [if_pos e, show goL lo hi (m :: t) = goP lo hi m :: goL lo hi t by simp [goL, e]]
        have : isR (goP lo hi m) = isR m := rfl
        unfold pM
        rw [List.countP_cons, this]
        cases isR m <;> simp <;> omega
      · rw [if_neg e, show goL lo hi (m :: t) = goL lo hi t by simp [goL, e]]
        omega
    have e2 : pM (stL lo hi (m :: t)) = pM (stP lo hi m) + pM (stL lo hi t) := by
      rw [stL_cons]; unfold pM; rw [List.countP_append]
    have e3 : pM (m :: t) = (if isR m = true then 0 else 1) + pM t := by
      unfold pM
      rw [List.countP_cons]
      cases isR m <;> simp <;> omega
    omega
theorem st_len {lo hi : Int32} : ∀ {ms : List Msg}, (stL lo hi ms).length ≤ ms.length + exs lo hi ms := by
  intro ms
  induction ms with
  | nil => exact Nat.zero_le _
  | cons m t ih =>
    have e5 : exs lo hi (m :: t) = ex1 lo hi m + exs lo hi t := ksum_cons
    rw [stL_cons, List.length_append, List.length_cons, e5]
    have : (stP lo hi m).length ≤ 1 + ex1 lo hi m := by
      unfold ex1
      by_cases hh : hit m lo hi = true
      · rw [if_pos hh]; omega
      · rw [if_neg hh]
        unfold stP
        rw [if_neg hh]
        exact Nat.le_refl _
    omega
