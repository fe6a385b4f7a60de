/-! PURE: sending all that is for a child: effects, counts, credits -/
set_option maxRecDepth 100000
theorem effs_app {l1 l2 : List Msg} {x : Int32} {o : Option Int64} : effs (l1 ++ l2) x o = effs l2 x (effs l1 x o) := by
  unfold effs
  rw [List.foldl_append]
theorem effs_cons {m : Msg} {l : List Msg} {x : Int32} {o : Option Int64} : effs (m :: l) x o = effs l x (eff m x o) := rfl
theorem app1_cong {m p : Msg} (h1 : p.1 = m.1) (h2 : p.2.2.2 = m.2.2.2) (o : Option Int64) : app1 p o = app1 m o := by
  unfold app1
  rw [h1, h2]
theorem eff_in {m : Msg} {x : Int32} {o : Option Int64} (h1 : m.2.1.toInt ≤ x.toInt) (h2 : x.toInt ≤ m.2.2.1.toInt) : eff m x o = app1 m o := if_pos ⟨by rw [i_le]; exact h1, by rw [i_le]; exact h2⟩
theorem eff_no {m : Msg} {x : Int32} {o : Option Int64} (h : ¬ (m.2.1.toInt ≤ x.toInt ∧ x.toInt ≤ m.2.2.1.toInt)) : eff m x o = o := if_neg (by rw [i_le, i_le]; exact h)
/-- a key outside the child: what stays does the same -/
theorem stP_eff {lo hi x : Int32} {m : Msg} {o : Option Int64} (hm : okM m) (hlh : lo.toInt ≤ hi.toInt) (hx : x.toInt < lo.toInt ∨ hi.toInt < x.toInt) : effs (stP lo hi m) x o = eff m x o := by
  have hm1 := hm.1
  rw [i_le] at hm1
  unfold stP
  by_cases hh : hit m lo hi = true
  · rw [if_pos hh]
    have hh' := hit_iff.mp hh
    have e1 : ∀ o, effs (if m.2.1 < lo then [leP lo m] else []) x o = if x.toInt < lo.toInt then eff m x o else o := by
      intro o
      by_cases hl : m.2.1 < lo
      · rw [if_pos hl]
        show eff (leP lo m) x o = _
        obtain ⟨q1, q2⟩ := leP_at hl hh'.2
        by_cases e : x.toInt < lo.toInt
        · rw [if_pos e]
          by_cases e2 : m.2.1.toInt ≤ x.toInt
          · rw [eff_in (by omega) (by omega), eff_in e2 (by omega)]
            exact app1_cong rfl rfl o
          · rw [eff_no (by omega), eff_no (by omega)]
        · rw [if_neg e, eff_no (by omega)]
      · rw [if_neg hl]
        show o = _
        split
        · next e =>
          unfold eff
          rw [if_neg]
          rw [i_le, i_le]
          rw [i_lt] at hl
          omega
        · rfl
    have e2 : ∀ o, effs (if hi < m.2.2.1 then [riP hi m] else []) x o = if hi.toInt < x.toInt then eff m x o else o := by
      intro o
      by_cases hl : hi < m.2.2.1
      · rw [if_pos hl]
        show eff (riP hi m) x o = _
        obtain ⟨q1, q2⟩ := riP_at hl hh'.1
        by_cases e : hi.toInt < x.toInt
        · rw [if_pos e]
          by_cases e2 : x.toInt ≤ m.2.2.1.toInt
          · rw [eff_in (by omega) (by omega), eff_in (by omega) e2]
            exact app1_cong rfl rfl o
          · rw [eff_no (by omega), eff_no (by omega)]
        · rw [if_neg e, eff_no (by omega)]
      · rw [if_neg hl]
        show o = _
        split
        · next e =>
          unfold eff
          rw [if_neg]
          rw [i_le, i_le]
          rw [i_lt] at hl
          omega
        · rfl
    rw [effs_app, e1, e2]
    rcases hx with hx | hx
    · rw [if_neg (by omega), if_pos hx]
    · rw [if_pos hx, if_neg (by omega)]
  · rw [if_neg hh]
    rfl
theorem stP_no {lo hi x : Int32} {m : Msg} {o : Option Int64} (hm : okM m) (hlh : lo.toInt ≤ hi.toInt) (hx1 : lo.toInt ≤ x.toInt) (hx2 : x.toInt ≤ hi.toInt) : effs (stP lo hi m) x o = o := by
  refine effs_out (fun p hp => ?_)
  have := (stP_mem hm hlh hp).2.2.2.2.2
  rw [i_le, i_le]
  intro h
  have : hit p lo hi = true := hit_iff.mpr ⟨by omega, by omega⟩
  simp_all
theorem stL_cons {lo hi : Int32} {m : Msg} {ms : List Msg} : stL lo hi (m :: ms) = stP lo hi m ++ stL lo hi ms := rfl
theorem stL_snoc {lo hi : Int32} {m : Msg} {ms : List Msg} : stL lo hi (ms ++ [m]) = stL lo hi ms ++ stP lo hi m := by
  unfold stL
  rw [List.flatMap_append]
  simp
theorem goL_snoc {lo hi : Int32} {m : Msg} {ms : List Msg} : goL lo hi (ms ++ [m]) = goL lo hi ms ++ (if hit m lo hi = true then [goP lo hi m] else []) := by
  unfold goL
  rw [List.filter_append, List.map_append]
  congr 1
  by_cases e : hit m lo hi = true
  · simp [e]
  · simp [e]
theorem stL_eff {lo hi x : Int32} : ∀ {ms : List Msg} {o : Option Int64}, (∀ m ∈ ms, okM m) → lo.toInt ≤ hi.toInt → (x.toInt < lo.toInt ∨ hi.toInt < x.toInt) → effs (stL lo hi ms) x o = effs ms x o := by
  intro ms
  induction ms with
  | nil => intro o _ _ _; rfl
  | cons m t ih =>
    intro o h1 h2 h3
    rw [stL_cons, effs_app, effs_cons, stP_eff (h1 m List.mem_cons_self) h2 h3]
    exact ih (fun m hm => h1 m (List.mem_cons_of_mem _ hm)) h2 h3
theorem stL_no {lo hi x : Int32} : ∀ {ms : List Msg} {o : Option Int64}, (∀ m ∈ ms, okM m) → lo.toInt ≤ hi.toInt → lo.toInt ≤ x.toInt → x.toInt ≤ hi.toInt → effs (stL lo hi ms) x o = o := by
  intro ms
  induction ms with
  | nil => intro o _ _ _ _; rfl
  | cons m t ih =>
    intro o h1 h2 h3 h4
    rw [stL_cons, effs_app, stP_no (h1 m List.mem_cons_self) h2 h3 h4]
    exact ih (fun m hm => h1 m (List.mem_cons_of_mem _ hm)) h2 h3 h4
theorem goL_eff {lo hi x : Int32} : ∀ {ms : List Msg} {o : Option Int64}, lo.toInt ≤ x.toInt → x.toInt ≤ hi.toInt → effs (goL lo hi ms) x o = effs ms x o := by
  intro ms
  induction ms with
  | nil => intro o _ _; rfl
  | cons m t ih =>
    intro o h1 h2
    rw [effs_cons]
    by_cases e : hit m lo hi = true
    · have : goL lo hi (m :: t) = goP lo hi m :: goL lo hi t := by
        simp [goL, e]
      rw [this, effs_cons, show eff (goP lo hi m) x o = eff m x o from cut_eff (by rw [i_le]; exact h1) (by rw [i_le]; exact h2)]
      exact ih h1 h2
    · have : goL lo hi (m :: t) = goL lo hi t := by
        simp [goL, e]
      rw [this, show eff m x o = o from out_eff (a := lo) (b := hi) (fun z => e (hit_in.mpr z)) (by rw [i_le]; exact h1) (by rw [i_le]; exact h2)]
      exact ih h1 h2
/-- how many of some messages hit a part -/
def hc (ms : List Msg) (lo hi : Int32) : Nat := ms.countP (fun m => hit m lo hi)
def hcR (ms : List Msg) (lo hi : Int32) : Nat := ms.countP (fun m => isR m && hit m lo hi)
theorem stL_hc {lo hi lo' hi' : Int32} : ∀ {ms : List Msg}, (∀ m ∈ ms, okM m) → lo.toInt ≤ hi.toInt → lo'.toInt ≤ hi'.toInt → (hi'.toInt < lo.toInt ∨ hi.toInt < lo'.toInt) → hc (stL lo hi ms) lo' hi' = hc ms lo' hi' := by
  intro ms
  induction ms with
  | nil => intro _ _ _ _; rfl
  | cons m t ih =>
    intro h1 h2 h3 h4
    have := ih (fun m hm => h1 m (List.mem_cons_of_mem _ hm)) h2 h3 h4
    unfold hc at *
    rw [stL_cons, List.countP_append, this, stP_hits (h1 m List.mem_cons_self) h2 h3 h4, List.countP_cons]
    omega
theorem stP_isR {lo hi : Int32} {m p : Msg} (hm : okM m) (hlh : lo.toInt ≤ hi.toInt) (hp : p ∈ stP lo hi m) : isR p = isR m := by
  unfold isR
  rw [(stP_mem hm hlh hp).1]
theorem stL_hcR {lo hi lo' hi' : Int32} : ∀ {ms : List Msg}, (∀ m ∈ ms, okM m) → lo.toInt ≤ hi.toInt → lo'.toInt ≤ hi'.toInt → (hi'.toInt < lo.toInt ∨ hi.toInt < lo'.toInt) → hcR (stL lo hi ms) lo' hi' = hcR ms lo' hi' := by
  intro ms
  induction ms with
  | nil => intro _ _ _ _; rfl
  | cons m t ih =>
    intro h1 h2 h3 h4
    have := ih (fun m hm => h1 m (List.mem_cons_of_mem _ hm)) h2 h3 h4
    have e0 : (stP lo hi m).countP (fun m => isR m && hit m lo' hi') = if isR m = true then (stP lo hi m).countP (fun p => hit p lo' hi') else 0 := by
      cases hr : isR m with
      | true =>
        rw [if_pos rfl]
        refine List.countP_congr (fun p hp => ?_)
        rw [stP_isR (h1 m List.mem_cons_self) h2 hp, hr]
        simp
      | false =>
        rw [if_neg (by decide), List.countP_eq_zero]
        intro p hp
        rw [stP_isR (h1 m List.mem_cons_self) h2 hp, hr]
        simp
    unfold hcR at *
    rw [stL_cons, List.countP_append, this, e0, stP_hits (h1 m List.mem_cons_self) h2 h3 h4, List.countP_cons]
    cases isR m <;> cases hit m lo' hi' <;> simp <;> omega
theorem stL_zero {lo hi lo' hi' : Int32} {ms : List Msg} (h1 : ∀ m ∈ ms, okM m) (h2 : lo.toInt ≤ hi.toInt) (h3 : lo.toInt ≤ lo'.toInt) (h4 : hi'.toInt ≤ hi.toInt) : hc (stL lo hi ms) lo' hi' = 0 := by
  unfold hc
  rw [List.countP_eq_zero]
  intro p hp
  unfold stL at hp
  obtain ⟨m, hm, hp⟩ := List.mem_flatMap.mp hp
  have h5 := (stP_mem (h1 m hm) h2 hp).2.2.2.2.2
  intro h6
  rw [hit_iff] at h6
  have : hit p lo hi = true := hit_iff.mpr ⟨by omega, by omega⟩
  rw [h5] at this
  cases this
theorem hcR_le {ms : List Msg} {lo hi : Int32} : hcR ms lo hi ≤ hc ms lo hi := by
  unfold hcR hc
  refine List.countP_mono_left (fun m _ h => ?_)
  rw [Bool.and_eq_true] at h
  exact h.2
/-- all hits, child by child: what falls with each sending -/
def hits {h : Nat} (ms : List Msg) (ks : List (Kid h)) : Nat := ksum (fun c => hc ms c.1 c.2.1) ks
def hitsR {h : Nat} (ms : List Msg) (ks : List (Kid h)) : Nat := ksum (fun c => hcR ms c.1 c.2.1) ks
/-- a sending: the children A ++ c :: B become A ++ ts ++ B -/
theorem hits_send {h : Nat} {A B ts : List (Kid h)} {c : Kid h} {ms : List Msg} {a b : Int} (hk : chn a b (A ++ c :: B)) (ht : chn c.1.toInt c.2.1.toInt ts) (h1 : ∀ m ∈ ms, okM m) :
    hits (stL c.1 c.2.1 ms) (A ++ (ts ++ B)) + hc ms c.1 c.2.1 = hits ms (A ++ c :: B) ∧ hitsR (stL c.1 c.2.1 ms) (A ++ (ts ++ B)) + hcR ms c.1 c.2.1 = hitsR ms (A ++ c :: B) := by
  obtain ⟨m0, k1, k2, k3, k4⟩ := chn.app.mp hk
  have eA : ∀ c' ∈ A, hc (stL c.1 c.2.1 ms) c'.1 c'.2.1 = hc ms c'.1 c'.2.1 ∧ hcR (stL c.1 c.2.1 ms) c'.1 c'.2.1 = hcR ms c'.1 c'.2.1 := fun c' hc' => by
    have := k1.mem c' hc'
    exact ⟨stL_hc h1 k3 this.2.1 (Or.inl (by omega)), stL_hcR h1 k3 this.2.1 (Or.inl (by omega))⟩
  have eB : ∀ c' ∈ B, hc (stL c.1 c.2.1 ms) c'.1 c'.2.1 = hc ms c'.1 c'.2.1 ∧ hcR (stL c.1 c.2.1 ms) c'.1 c'.2.1 = hcR ms c'.1 c'.2.1 := fun c' hc' => by
    have := k4.mem c' hc'
    exact ⟨stL_hc h1 k3 this.2.1 (Or.inr (by omega)), stL_hcR h1 k3 this.2.1 (Or.inr (by omega))⟩
  have eT : ∀ c' ∈ ts, hc (stL c.1 c.2.1 ms) c'.1 c'.2.1 = 0 ∧ hcR (stL c.1 c.2.1 ms) c'.1 c'.2.1 = 0 := fun c' hc' => by
    have := ht.mem c' hc'
    have h0 := stL_zero (ms := ms) h1 k3 (lo' := c'.1) (hi' := c'.2.1) (by omega) (by omega)
    have := hcR_le (ms := stL c.1 c.2.1 ms) (lo := c'.1) (hi := c'.2.1)
    exact ⟨h0, by omega⟩
  have z0 : ∀ l : List (Kid h), ksum (fun _ => 0) l = 0 := by
    intro l
    induction l with
    | nil => rfl
    | cons c t ih => rw [ksum_cons, ih]
  unfold hits hitsR
  refine ⟨?_, ?_⟩
  · rw [ksum_app, ksum_app, ksum_app, ksum_cons, ksum_eq (fun c' hc' => (eA c' hc').1), ksum_eq (l := B) (fun c' hc' => (eB c' hc').1), ksum_eq (l := ts) (g := fun _ => 0) (fun c' hc' => (eT c' hc').1), z0]
    omega
  · rw [ksum_app, ksum_app, ksum_app, ksum_cons, ksum_eq (fun c' hc' => (eA c' hc').2), ksum_eq (l := B) (fun c' hc' => (eB c' hc').2), ksum_eq (l := ts) (g := fun _ => 0) (fun c' hc' => (eT c' hc').2), z0]
    omega
/-- every message hits some child -/
theorem hits_ge {h : Nat} {ks : List (Kid h)} {lo hi : Int32} (hk : chn lo.toInt hi.toInt ks) : ∀ {ms : List Msg}, (∀ m ∈ ms, okM m ∧ lo ≤ m.2.1 ∧ m.2.2.1 ≤ hi) → ms.length ≤ hits ms ks := by
  intro ms
  induction ms with
  | nil => intro _; exact Nat.zero_le _
  | cons m t ih =>
    intro h1
    have := ih (fun m hm => h1 m (List.mem_cons_of_mem _ hm))
    obtain ⟨ok, q1, q2⟩ := h1 m List.mem_cons_self
    have ok1 := ok.1
    rw [i_le] at q1 q2 ok1
    obtain ⟨c, hc', -, q3, q4⟩ := hk.find (x := m.2.1) q1 (by omega)
    have e : hits (m :: t) ks = ksum (fun c => if hit m c.1 c.2.1 = true then 1 else 0) ks + hits t ks := by
      unfold hits
      have : ∀ l : List (Kid h), ksum (fun c => hc (m :: t) c.1 c.2.1) l = ksum (fun c => if hit m c.1 c.2.1 = true then 1 else 0) l + ksum (fun c => hc t c.1 c.2.1) l := by
        intro l
        induction l with
        | nil => rfl
        | cons c u ihu =>
          rw [ksum_cons, ksum_cons, ksum_cons, ihu]
          have : hc (m :: t) c.1 c.2.1 = hc t c.1 c.2.1 + (if hit m c.1 c.2.1 = true then 1 else 0) := by
            unfold hc
            rw [List.countP_cons]
          omega
      exact this ks
    have h2 := ksum_mem (f := fun c : Kid h => if hit m c.1 c.2.1 = true then 1 else 0) hc'
    have h3 : hit m c.1 c.2.1 = true := hit_iff.mpr ⟨by omega, by omega⟩
    rw [if_pos h3] at h2
    rw [e, List.length_cons]
    omega
