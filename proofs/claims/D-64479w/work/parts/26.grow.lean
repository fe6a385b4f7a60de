/-! adding with credits; emptying; Letters.become -/
set_option maxRecDepth 100000
section GRW
variable {g : Cx} {l : Launch} {d : Nat} {k n : Nat} {α : AM} {a c b : Nat}
/-- growth of letters up to N: capacity, credits -/
def gL (c k n c' k' n' N : Nat) : Prop := c ≤ c' ∧ (c' = c ∨ (c < N ∧ c' + 2 ≤ 2 * N)) ∧ n' + 2 * c' = n + 2 * c ∧ 8 * k + c ≤ 8 * k' + c' ∧ k' ≤ k
/-- of rows -/
def gR0 (c k n c' k' n' N : Nat) : Prop := c ≤ c' ∧ (c' = c ∨ (c < N ∧ c' + 2 ≤ 2 * N)) ∧ n' + 4 * c' = n + 4 * c ∧ 8 * k + c ≤ 8 * k' + c' ∧ k' ≤ k
/-- a capacity of rows -/
def pw (c : Nat) : Prop := ∃ j, c = 16 * 2 ^ j
def gR (c k n c' k' n' N : Nat) : Prop := gR0 c k n c' k' n' N ∧ (pw c → pw c')
theorem pw_gr {m c : Nat} (h : pw c) : pw (grC m c) := by
  obtain ⟨j, rfl⟩ := h
  unfold grC
  split
  · exact ⟨j + 1, by rw [Nat.pow_succ]; omega⟩
  · exact ⟨j, rfl⟩
/-- of pages -/
def gP (c k n c' k' n' N : Nat) : Prop := c ≤ c' ∧ (c' = c ∨ (c < N ∧ c' + 2 ≤ 2 * N)) ∧ n' + 4 * c' = n + 4 * c ∧ 2 * k + c ≤ 2 * k' + c' ∧ k' ≤ k
theorem gL.rf {N : Nat} : gL c k n c k n N := ⟨Nat.le_refl _, Or.inl rfl, rfl, Nat.le_refl _, Nat.le_refl _⟩
theorem gR.rf {N : Nat} : gR c k n c k n N := ⟨⟨Nat.le_refl _, Or.inl rfl, rfl, Nat.le_refl _, Nat.le_refl _⟩, fun h => h⟩
theorem gP.rf {N : Nat} : gP c k n c k n N := ⟨Nat.le_refl _, Or.inl rfl, rfl, Nat.le_refl _, Nat.le_refl _⟩
theorem gL.tr {c1 k1 n1 c2 k2 n2 N : Nat} (h : gL c k n c1 k1 n1 N) (h' : gL c1 k1 n1 c2 k2 n2 N) : gL c k n c2 k2 n2 N := by
  unfold gL at *; omega
theorem gR.tr {c1 k1 n1 c2 k2 n2 N : Nat} (h : gR c k n c1 k1 n1 N) (h' : gR c1 k1 n1 c2 k2 n2 N) : gR c k n c2 k2 n2 N := by
  refine ⟨?_, fun q => h'.2 (h.2 q)⟩
  have h1 := h.1
  have h2 := h'.1
  unfold gR0 at *; omega
theorem gP.tr {c1 k1 n1 c2 k2 n2 N : Nat} (h : gP c k n c1 k1 n1 N) (h' : gP c1 k1 n1 c2 k2 n2 N) : gP c k n c2 k2 n2 N := by
  unfold gP at *; omega
theorem sp_ladd' {m : Msg} {q0 : Nat} {ms : List Nat} {N : Nat} (ha : α a = some (oL ms c)) (hq : α q0 = some (oW (mC m))) (hall : allM α ms) (hN : ms.length + 1 ≤ N) (h8 : 8 ≤ c) (hc : c ≤ 100000) (hk : 2 * N ≤ 8 * k + c) (hn : 4 * N ≤ n + 2 * c) :
    aMs g l d k n M7_add [.ref a, .ref q0] α (fun o α' k' n' => o = .returned none ∧ ∃ c', α' = aset α a (oL (ms ++ [q0]) c') ∧ gL c k n c' k' n' N) := by
  have e1 : grK ms.length c 1 ≤ k := by unfold grK; split <;> omega
  have e2 : grK ms.length c (2 * c) ≤ n := by unfold grK; split <;> omega
  refine (sp_ladd ha hq hall (by omega) (by unfold capM; omega) e1 e2).mono (fun o α' k' n' _ _ h => ?_)
  obtain ⟨h1, h2, h3, h4⟩ := h
  refine ⟨h1, _, h2, ?_⟩
  unfold gL grC grK at *
  split at h3 <;> split at h4 <;> split <;> omega
theorem sp_add' {r : Prs} {key : Int32} {v : Int64} {N : Nat} (ha : α a = some (oR r c)) (hN : r.length + 1 ≤ N) (h8 : 16 ≤ c) (hc : c ≤ 100000) (hk : 2 * N ≤ 8 * k + c) (hn : 8 * N ≤ n + 4 * c) (hd : 1 ≤ d) :
    aMs g l d k n M4_add [.ref a, .int key, .long v] α (fun o α' k' n' => o = .returned none ∧ ∃ c', α' = aset α a (oR (r ++ [(key, v)]) c') ∧ gR c k n c' k' n' N) := by
  have e1 : grK r.length c 2 ≤ k := by unfold grK; split <;> omega
  have e2 : grK r.length c (4 * c) ≤ n := by unfold grK; split <;> omega
  refine (sp_add ha (by omega) (by unfold capM; omega) e1 e2 hd).mono (fun o α' k' n' _ _ h => ?_)
  obtain ⟨h1, h2, h3, h4⟩ := h
  refine ⟨h1, _, h2, ?_, pw_gr⟩
  unfold gR0 grC grK at *
  split at h3 <;> split at h4 <;> split <;> omega
theorem mApp_len {m : Msg} {r : Prs} (h : m.2.1 ≤ m.2.2.1) : (mApp m r).length ≤ r.length + (if insB m r = true then 1 else 0) := by
  unfold mApp insB
  have h0 := upt_ge (r := r) h
  have h1 := upt_le (key := m.2.2.1) (r := r)
  by_cases e1 : m.1 = 1
  · simp [e1]
    omega
  · by_cases e4 : m.1 = 4
    · simp [e4, raiR]
    · by_cases e5 : hasB m.2.1 r = true
      · simp [e1, e4, e5]
      · have := blw_le (key := m.2.1) (l := r)
        simp [e1, e4, e5, insR]
        omega
theorem sp_take' {m : Msg} {q0 : Nat} {r : Prs} {N : Nat} (ha : α a = some (oR r c)) (hq : α q0 = some (oW (mC m))) (hs : srt r) (hft : m.2.1 ≤ m.2.2.1) (hN : (mApp m r).length ≤ N) (hN1 : r.length ≤ N) (h8 : 16 ≤ c) (hc : c ≤ 100000) (hk : 2 * N ≤ 8 * k + c) (hn : 8 * N ≤ n + 4 * c) (hd : 2 ≤ d) :
    aMs g l d k n M4_take [.ref a, .ref q0] α (fun o α' k' n' => o = .returned none ∧ ∃ c', α' = aset α a (oR (mApp m r) c') ∧ gR c k n c' k' n' N) := by
  have e0 : insB m r = true → (mApp m r).length = r.length + 1 := by
    intro hi
    have hi' : ((¬ m.1 = 1) ∧ ¬ m.1 = 4) ∧ ¬ hasB m.2.1 r = true := by simpa [insB] using hi
    rw [mApp, if_neg hi'.1.1, if_neg hi'.1.2, if_neg hi'.2, insR_len blw_le]
  have e1 : tkK m r c 2 ≤ k := by
    unfold tkK grK
    split
    · next hi => have := e0 hi; split <;> omega
    · omega
  have e2 : tkK m r c (4 * c) ≤ n := by
    unfold tkK grK
    split
    · next hi => have := e0 hi; split <;> omega
    · omega
  refine (sp_take ha hq hs hft (by omega) (by unfold capM; omega) e1 e2 hd).mono (fun o α' k' n' _ _ h => ?_)
  obtain ⟨h1, h2, h3, h4⟩ := h
  refine ⟨h1, _, h2, ?_, fun q => by unfold tkC; split; exact pw_gr q; exact q⟩
  unfold gR0 tkC tkK grC grK at *
  by_cases hi : insB m r = true
  · have := e0 hi
    rw [if_pos hi] at *
    split at h3 <;> split at h4 <;> split <;> omega
  · rw [if_neg hi] at *
    omega
theorem sp_padd' {p0 : Nat} {ps : List (Nat × Int32)} {lw : Int32} {N : Nat} (ha : α a = some (oP ps c)) (hp : isPg α p0) (hall : allG α ps) (hN : ps.length + 1 ≤ N) (h8 : 4 ≤ c) (hc : c ≤ 100000) (hk : 2 * N ≤ 2 * k + c) (hn : 8 * N ≤ n + 4 * c) :
    aMs g l d k n M10_add [.ref a, .ref p0, .int lw] α (fun o α' k' n' => o = .returned (some (.ref a)) ∧ ∃ c', α' = aset α a (oP (ps ++ [(p0, lw)]) c') ∧ gP c k n c' k' n' N) := by
  have e1 : grK ps.length c 2 ≤ k := by unfold grK; split <;> omega
  have e2 : grK ps.length c (4 * c) ≤ n := by unfold grK; split <;> omega
  refine (sp_padd ha hp hall (by omega) (by unfold capM; omega) e1 e2).mono (fun o α' k' n' _ _ h => ?_)
  obtain ⟨h1, h2, h3, h4⟩ := h
  refine ⟨h1, _, h2, ?_⟩
  unfold gP grC grK at *
  split at h3 <;> split at h4 <;> split <;> omega
/-! emptying -/
theorem Rep.clrR {μ : Mem} {r : Prs} {kr vr : Nat} {x : Value} (hR : Rep α μ) (ha : α a = some (oR r c)) (m1 : μ a = some (cO 4 [.ref kr, .ref vr, x])) : Rep (aset α a (oR [] c)) (mset μ a (cO 4 [.ref kr, .ref vr, .int 0])) := by
  obtain ⟨w, hw⟩ := hR
  obtain ⟨ks, vs, q1, m2, m3, e1, e2, hle, hcap, ht, hu⟩ := hw.1 a _ ha
  have n1 : a ≠ (w a).1 := ne_cc q1 m2 (by intro h; cases h)
  have n2 : a ≠ (w a).2 := ne_cc q1 m3 (by intro h; cases h)
  rw [m1] at q1
  cases q1
  refine ⟨_, hw.upd (S := [(w a).1, (w a).2]) (w' := ((w a).1, (w a).2)) (Or.inl ⟨_, ha, rfl⟩) (o' := oR [] c) ⟨ks, vs, mset_s, (mset_n n1.symm).trans m2, (mset_n n2.symm).trans m3, e1, e2, by simp, hcap, by simp, by simp⟩ (fun q c9 h9 h10 h11 => ?_) (fun z hz => ?_)⟩
  · rw [mset_n h9]; exact h11
  · have : z = (w a).1 ∨ z = (w a).2 := by simpa [arrs, oR] using hz
    rcases this with rfl | rfl
    · exact ⟨n1.symm, Or.inl (by simp)⟩
    · exact ⟨n2.symm, Or.inl (by simp)⟩
theorem Rep.clrP {μ : Mem} {ps : List (Nat × Int32)} {kr vr : Nat} {x : Value} (hR : Rep α μ) (ha : α a = some (oP ps c)) (m1 : μ a = some (cO 10 [.ref kr, .ref vr, x])) : Rep (aset α a (oP [] c)) (mset μ a (cO 10 [.ref kr, .ref vr, .int 0])) := by
  obtain ⟨w, hw⟩ := hR
  obtain ⟨ks, vs, q1, m2, m3, e1, e2, hle, hcap, ht, hu⟩ := hw.1 a _ ha
  have n1 : a ≠ (w a).1 := ne_cc q1 m2 (by intro h; cases h)
  have n2 : a ≠ (w a).2 := ne_cc q1 m3 (by intro h; cases h)
  rw [m1] at q1
  cases q1
  refine ⟨_, hw.upd (S := [(w a).1, (w a).2]) (w' := ((w a).1, (w a).2)) (Or.inl ⟨_, ha, rfl⟩) (o' := oP [] c) ⟨ks, vs, mset_s, (mset_n n1.symm).trans m2, (mset_n n2.symm).trans m3, e1, e2, by simp, hcap, by simp, by simp⟩ (fun q c9 h9 h10 h11 => ?_) (fun z hz => ?_)⟩
  · rw [mset_n h9]; exact h11
  · have : z = (w a).1 ∨ z = (w a).2 := by simpa [arrs, oP] using hz
    rcases this with rfl | rfl
    · exact ⟨n1.symm, Or.inl (by simp)⟩
    · exact ⟨n2.symm, Or.inl (by simp)⟩
theorem Rep.clrL {μ : Mem} {ms : List Nat} {r : Nat} {x : Value} (hR : Rep α μ) (ha : α a = some (oL ms c)) (m1 : μ a = some (cO 7 [.ref r, x])) : Rep (aset α a (oL [] c)) (mset μ a (cO 7 [.ref r, .int 0])) := by
  obtain ⟨w, hw⟩ := hR
  obtain ⟨rs, q1, m2, e1, hle, hcap, ht⟩ := hw.1 a _ ha
  have n1 : a ≠ (w a).1 := ne_cc q1 m2 (by intro h; cases h)
  rw [m1] at q1
  cases q1
  refine ⟨_, hw.upd (S := [(w a).1]) (w' := ((w a).1, 0)) (Or.inl ⟨_, ha, rfl⟩) (o' := oL [] c) ⟨rs, mset_s, (mset_n n1.symm).trans m2, e1, by simp, hcap, by simp⟩ (fun q c9 h9 h10 h11 => ?_) (fun z hz => ?_)⟩
  · rw [mset_n h9]; exact h11
  · have : z = (w a).1 := by simpa [arrs, oL] using hz
    subst this
    exact ⟨n1.symm, Or.inl (by simp)⟩
theorem allM.ext {α' : AM} {ms : List Nat} (h : allM α ms) (he : ∀ q m, α q = some (oW (mC m)) → α' q = some (oW (mC m))) : allM α' ms := fun q hq => by
  obtain ⟨m, hm⟩ := h q hq
  exact ⟨m, he q m hm⟩
/-- a row, letters or pages written leave messages and pages -/
theorem raw_set {q : Nat} {cl : Cel} {o o' : AO} (ha : α a = some o) (ho : ∀ cl, o ≠ oW cl) (h : α q = some (oW cl)) : aset α a o' q = some (oW cl) := by
  rw [aset_n]
  · exact h
  · intro e
    subst e
    rw [ha] at h
    exact ho cl (Option.some.inj h)
theorem oL_ne {ms : List Nat} : ∀ cl, oL ms c ≠ oW cl := fun cl h => by cases h
theorem oR_ne {r : Prs} : ∀ cl, oR r c ≠ oW cl := fun cl h => by cases h
theorem oP_ne {ps : List (Nat × Int32)} : ∀ cl, oP ps c ≠ oW cl := fun cl h => by cases h
theorem lp_become {ms0 ms2 : List Nat} {c0 c2 : Nat} (ha : α a = some (oL ms0 c0)) (hab : a ≠ b) (hb : α b = some (oL ms2 c2)) (hall : allM α ms2) (hN : ms2.length ≤ 40000) :
    ∀ (f j c1 : Nat) (α1 : AM) (μ : Mem) (k1 n1 : Nat), ms2.length - j < f → j ≤ ms2.length → Rep α1 μ → α1 = aset α a (oL (ms2.take j) c1) → 8 ≤ c1 → c1 ≤ 100000 → gL c k n c1 k1 n1 ms2.length → 2 * ms2.length ≤ 8 * k1 + c1 → 4 * ms2.length ≤ n1 + 2 * c1 → 1 ≤ d →
      bB g l M7_become d (fun o μ' k' n' => ∃ α', Rep α' μ' ∧ (o = .returned none ∧ ∃ c', α' = aset α a (oL ms2 c') ∧ gL c k n c' k' n' ms2.length)) 7 [(0, .ref a), (1, .ref b), (2, .int (nI j))] [] μ k1 n1 := by
  intro f
  induction f with
  | zero => intro j c1 α1 μ k1 n1 h; omega
  | succ f ih =>
    intro j c1 α1 μ k1 n1 hf hj hR hα h8 hc hg hk hn hd
    subst hα
    have hb1 : aset α a (oL (ms2.take j) c1) b = some (oL ms2 c2) := (aset_n hab.symm).trans hb
    obtain ⟨r, rs, m1, m2, e1, hle, hcap, ht⟩ := hR.let hb1
    obtain ⟨r', rs', m1', -⟩ := hR.let (α := aset α a (oL (ms2.take j) c1)) aset_s
    have hcap' : c2 ≤ 1000000 := hcap
    refine b_iload_n dX7_become_7 rfl ?_
    first | refine b_aload_n dX7_become_8 rfl ?_ | refine b_aload_nN dX7_become_8 rfl ?_
    refine b_getf dX7_become_9 f7_15 (by first | assumption | exact mset_s | exact Rep.raw (by assumption) (by assumption) | (refine (mset_n (by first | assumption | exact Ne.symm (by assumption) | exact ne_fr (by assumption) (by assumption) | exact Ne.symm (ne_fr (by assumption) (by assumption)))).trans ?_; first | assumption | exact mset_s | exact Rep.raw (by assumption) (by assumption) | (refine (mset_n (by first | assumption | exact Ne.symm (by assumption) | exact ne_fr (by assumption) (by assumption) | exact Ne.symm (ne_fr (by assumption) (by assumption)))).trans ?_; first | assumption | exact mset_s | exact Rep.raw (by assumption) (by assumption) | (refine (mset_n (by first | assumption | exact Ne.symm (by assumption) | exact ne_fr (by assumption) (by assumption) | exact Ne.symm (ne_fr (by assumption) (by assumption)))).trans ?_; first | assumption | exact mset_s | exact Rep.raw (by assumption) (by assumption) | (refine (mset_n (by first | assumption | exact Ne.symm (by assumption) | exact ne_fr (by assumption) (by assumption) | exact Ne.symm (ne_fr (by assumption) (by assumption)))).trans ?_; first | assumption | exact mset_s | exact Rep.raw (by assumption) (by assumption) | (refine (mset_n (by first | assumption | exact Ne.symm (by assumption) | exact ne_fr (by assumption) (by assumption) | exact Ne.symm (ne_fr (by assumption) (by assumption)))).trans ?_; first | assumption | exact mset_s | exact Rep.raw (by assumption) (by assumption) | (refine (mset_n (by first | assumption | exact Ne.symm (by assumption) | exact ne_fr (by assumption) (by assumption) | exact Ne.symm (ne_fr (by assumption) (by assumption)))).trans ?_; first | assumption | exact mset_s | exact Rep.raw (by assumption) (by assumption) | (refine (mset_n (by first | assumption | exact Ne.symm (by assumption) | exact ne_fr (by assumption) (by assumption) | exact Ne.symm (ne_fr (by assumption) (by assumption)))).trans ?_; assumption)))))))) rfl ?_
    refine b_icmp_ge (tgt := 31) dX7_become_12 (by decide) (fun h12 => ?_) (fun h12 => ?_)
    · rw [nI_leI (by omega) (by omega)] at h12
      have e : j = ms2.length := by omega
      subst e
      refine b_vret dX7_become_31 rfl ?_
      exact ⟨_, hR, rfl, c1, by rw [List.take_length], hg⟩
    · rw [nI_leI (by omega) (by omega)] at h12
      obtain ⟨q, hq⟩ := at_of (l := ms2) (j := j) (by omega)
      have hx := get_of_take ht hq
      have hix : ix rs (nI j) = some (some q) := by rw [ix_n (by omega)]; exact hx
      obtain ⟨m, hm⟩ := hall q (List.mem_of_getElem? hq)
      have hlen : (ms2.take j).length = j := by simp; omega
      have hall1 : allM (aset α a (oL (ms2.take j) c1)) (ms2.take j) := fun x hx => by
        obtain ⟨m', hm'⟩ := hall x (List.mem_of_mem_take hx)
        exact ⟨m', raw_set ha oL_ne hm'⟩
      first | refine b_aload_n dX7_become_15 rfl ?_ | refine b_aload_nN dX7_become_15 rfl ?_
      first | refine b_aload_n dX7_become_16 rfl ?_ | refine b_aload_nN dX7_become_16 rfl ?_
      refine b_getf dX7_become_17 f7_9 (by first | assumption | exact mset_s | exact Rep.raw (by assumption) (by assumption) | (refine (mset_n (by first | assumption | exact Ne.symm (by assumption) | exact ne_fr (by assumption) (by assumption) | exact Ne.symm (ne_fr (by assumption) (by assumption)))).trans ?_; first | assumption | exact mset_s | exact Rep.raw (by assumption) (by assumption) | (refine (mset_n (by first | assumption | exact Ne.symm (by assumption) | exact ne_fr (by assumption) (by assumption) | exact Ne.symm (ne_fr (by assumption) (by assumption)))).trans ?_; first | assumption | exact mset_s | exact Rep.raw (by assumption) (by assumption) | (refine (mset_n (by first | assumption | exact Ne.symm (by assumption) | exact ne_fr (by assumption) (by assumption) | exact Ne.symm (ne_fr (by assumption) (by assumption)))).trans ?_; first | assumption | exact mset_s | exact Rep.raw (by assumption) (by assumption) | (refine (mset_n (by first | assumption | exact Ne.symm (by assumption) | exact ne_fr (by assumption) (by assumption) | exact Ne.symm (ne_fr (by assumption) (by assumption)))).trans ?_; first | assumption | exact mset_s | exact Rep.raw (by assumption) (by assumption) | (refine (mset_n (by first | assumption | exact Ne.symm (by assumption) | exact ne_fr (by assumption) (by assumption) | exact Ne.symm (ne_fr (by assumption) (by assumption)))).trans ?_; first | assumption | exact mset_s | exact Rep.raw (by assumption) (by assumption) | (refine (mset_n (by first | assumption | exact Ne.symm (by assumption) | exact ne_fr (by assumption) (by assumption) | exact Ne.symm (ne_fr (by assumption) (by assumption)))).trans ?_; first | assumption | exact mset_s | exact Rep.raw (by assumption) (by assumption) | (refine (mset_n (by first | assumption | exact Ne.symm (by assumption) | exact ne_fr (by assumption) (by assumption) | exact Ne.symm (ne_fr (by assumption) (by assumption)))).trans ?_; assumption)))))))) rfl ?_
      refine b_iload_n dX7_become_20 rfl ?_
      refine b_aald dX7_become_21 (by first | assumption | exact mset_s | exact Rep.raw (by assumption) (by assumption) | (refine (mset_n (by first | assumption | exact Ne.symm (by assumption) | exact ne_fr (by assumption) (by assumption) | exact Ne.symm (ne_fr (by assumption) (by assumption)))).trans ?_; first | assumption | exact mset_s | exact Rep.raw (by assumption) (by assumption) | (refine (mset_n (by first | assumption | exact Ne.symm (by assumption) | exact ne_fr (by assumption) (by assumption) | exact Ne.symm (ne_fr (by assumption) (by assumption)))).trans ?_; first | assumption | exact mset_s | exact Rep.raw (by assumption) (by assumption) | (refine (mset_n (by first | assumption | exact Ne.symm (by assumption) | exact ne_fr (by assumption) (by assumption) | exact Ne.symm (ne_fr (by assumption) (by assumption)))).trans ?_; first | assumption | exact mset_s | exact Rep.raw (by assumption) (by assumption) | (refine (mset_n (by first | assumption | exact Ne.symm (by assumption) | exact ne_fr (by assumption) (by assumption) | exact Ne.symm (ne_fr (by assumption) (by assumption)))).trans ?_; first | assumption | exact mset_s | exact Rep.raw (by assumption) (by assumption) | (refine (mset_n (by first | assumption | exact Ne.symm (by assumption) | exact ne_fr (by assumption) (by assumption) | exact Ne.symm (ne_fr (by assumption) (by assumption)))).trans ?_; first | assumption | exact mset_s | exact Rep.raw (by assumption) (by assumption) | (refine (mset_n (by first | assumption | exact Ne.symm (by assumption) | exact ne_fr (by assumption) (by assumption) | exact Ne.symm (ne_fr (by assumption) (by assumption)))).trans ?_; first | assumption | exact mset_s | exact Rep.raw (by assumption) (by assumption) | (refine (mset_n (by first | assumption | exact Ne.symm (by assumption) | exact ne_fr (by assumption) (by assumption) | exact Ne.symm (ne_fr (by assumption) (by assumption)))).trans ?_; assumption)))))))) (by decide) (by first | assumption | exact ix_D (by first | assumption | omega) (by first | assumption | omega)) ?_
      refine b_call (As := [.ref a, .ref q]) (rest := []) s7_19 dX7_become_22 rfl rfl (fun ci hci => by cases hci; exact ⟨_, _, _, rfl, by first | assumption | exact mset_s | exact Rep.raw (by assumption) (by assumption) | (refine (mset_n (by first | assumption | exact Ne.symm (by assumption) | exact ne_fr (by assumption) (by assumption) | exact Ne.symm (ne_fr (by assumption) (by assumption)))).trans ?_; first | assumption | exact mset_s | exact Rep.raw (by assumption) (by assumption) | (refine (mset_n (by first | assumption | exact Ne.symm (by assumption) | exact ne_fr (by assumption) (by assumption) | exact Ne.symm (ne_fr (by assumption) (by assumption)))).trans ?_; first | assumption | exact mset_s | exact Rep.raw (by assumption) (by assumption) | (refine (mset_n (by first | assumption | exact Ne.symm (by assumption) | exact ne_fr (by assumption) (by assumption) | exact Ne.symm (ne_fr (by assumption) (by assumption)))).trans ?_; first | assumption | exact mset_s | exact Rep.raw (by assumption) (by assumption) | (refine (mset_n (by first | assumption | exact Ne.symm (by assumption) | exact ne_fr (by assumption) (by assumption) | exact Ne.symm (ne_fr (by assumption) (by assumption)))).trans ?_; first | assumption | exact mset_s | exact Rep.raw (by assumption) (by assumption) | (refine (mset_n (by first | assumption | exact Ne.symm (by assumption) | exact ne_fr (by assumption) (by assumption) | exact Ne.symm (ne_fr (by assumption) (by assumption)))).trans ?_; first | assumption | exact mset_s | exact Rep.raw (by assumption) (by assumption) | (refine (mset_n (by first | assumption | exact Ne.symm (by assumption) | exact ne_fr (by assumption) (by assumption) | exact Ne.symm (ne_fr (by assumption) (by assumption)))).trans ?_; first | assumption | exact mset_s | exact Rep.raw (by assumption) (by assumption) | (refine (mset_n (by first | assumption | exact Ne.symm (by assumption) | exact ne_fr (by assumption) (by assumption) | exact Ne.symm (ne_fr (by assumption) (by assumption)))).trans ?_; assumption)))))))⟩) (sp_ladd' (d := 0) aset_s (raw_set ha oL_ne hm) hall1 (N := ms2.length) (by omega) h8 hc hk hn _ hR) (by first | (rintro _ _ _ _ ⟨h, -⟩; exact ⟨_, h⟩) | (rintro _ _ _ _ ⟨_, _, h, -⟩; exact ⟨_, h⟩) | (rintro _ _ _ _ ⟨_, _, _, h, -⟩; exact ⟨_, h⟩) | (rintro _ _ _ _ ⟨_, _, _, _, h, -⟩; exact ⟨_, h⟩)) (by omega) (Nat.le_of_ble_eq_true rfl) (fun v1 μ1 k1 n1 hk1 hn1 hQ1 => ?_)
      obtain ⟨α2, hR2, z1, c3, z2, z3⟩ := hQ1
      cases z1
      rw [aset2] at z2
      have e2 : ms2.take j ++ [q] = ms2.take (j + 1) := by rw [List.take_succ, hq]; rfl
      rw [e2] at z2
      first | refine b_iincN dX7_become_25 rfl (by decide) ?_ | refine b_iinc1 dX7_become_25 rfl (by decide) ?_
      refine b_goto (tgt := 7) dX7_become_28 (by decide) ?_
      have z3' := z3
      unfold gL at z3'
      exact bB.locs rfl (ih (j + 1) c3 α2 _ _ _ (by omega) (by omega) hR2 z2 (by omega) (by omega) (hg.tr z3) (by omega) (by omega) hd)
theorem sp_become {ms0 ms2 : List Nat} {c2 : Nat} (ha : α a = some (oL ms0 c)) (hab : a ≠ b) (hb : α b = some (oL ms2 c2)) (hall : allM α ms2) (hN : ms2.length ≤ 40000) (h8 : 8 ≤ c) (hc : c ≤ 100000) (hk : 2 * ms2.length ≤ 8 * k + c) (hn : 4 * ms2.length ≤ n + 2 * c) (hd : 1 ≤ d) :
    aMs g l d k n M7_become [.ref a, .ref b] α (fun o α' k' n' => o = .returned none ∧ ∃ c', α' = aset α a (oL ms2 c') ∧ gL c k n c' k' n' ms2.length) := by
  intro μ hR
  obtain ⟨r, rs, m1, -⟩ := hR.let ha
  refine Ms.of rfl rfl (Nat.le_of_ble_eq_true rfl) ?_
  first | refine b_aload_n dX7_become_0 rfl ?_ | refine b_aload_nN dX7_become_0 rfl ?_
  refine b_iconst (v := 0) dX7_become_1 (by decide) ?_
  refine b_putf dX7_become_2 f7_15 (by first | assumption | exact mset_s | exact Rep.raw (by assumption) (by assumption) | (refine (mset_n (by first | assumption | exact Ne.symm (by assumption) | exact ne_fr (by assumption) (by assumption) | exact Ne.symm (ne_fr (by assumption) (by assumption)))).trans ?_; first | assumption | exact mset_s | exact Rep.raw (by assumption) (by assumption) | (refine (mset_n (by first | assumption | exact Ne.symm (by assumption) | exact ne_fr (by assumption) (by assumption) | exact Ne.symm (ne_fr (by assumption) (by assumption)))).trans ?_; first | assumption | exact mset_s | exact Rep.raw (by assumption) (by assumption) | (refine (mset_n (by first | assumption | exact Ne.symm (by assumption) | exact ne_fr (by assumption) (by assumption) | exact Ne.symm (ne_fr (by assumption) (by assumption)))).trans ?_; first | assumption | exact mset_s | exact Rep.raw (by assumption) (by assumption) | (refine (mset_n (by first | assumption | exact Ne.symm (by assumption) | exact ne_fr (by assumption) (by assumption) | exact Ne.symm (ne_fr (by assumption) (by assumption)))).trans ?_; first | assumption | exact mset_s | exact Rep.raw (by assumption) (by assumption) | (refine (mset_n (by first | assumption | exact Ne.symm (by assumption) | exact ne_fr (by assumption) (by assumption) | exact Ne.symm (ne_fr (by assumption) (by assumption)))).trans ?_; first | assumption | exact mset_s | exact Rep.raw (by assumption) (by assumption) | (refine (mset_n (by first | assumption | exact Ne.symm (by assumption) | exact ne_fr (by assumption) (by assumption) | exact Ne.symm (ne_fr (by assumption) (by assumption)))).trans ?_; first | assumption | exact mset_s | exact Rep.raw (by assumption) (by assumption) | (refine (mset_n (by first | assumption | exact Ne.symm (by assumption) | exact ne_fr (by assumption) (by assumption) | exact Ne.symm (ne_fr (by assumption) (by assumption)))).trans ?_; assumption)))))))) (Nat.le_of_ble_eq_true rfl) rfl rfl ?_
  refine b_iconst (v := 0) dX7_become_5 (by decide) ?_
  refine b_istore_n dX7_become_6 (by decide) ?_
  exact bB.locs rfl (lp_become ha hab hb hall hN (ms2.length + 1) 0 c _ _ k n (by omega) (by omega) (hR.clrL ha m1) (by rw [List.take_zero]) h8 hc gL.rf hk hn hd)
end GRW
