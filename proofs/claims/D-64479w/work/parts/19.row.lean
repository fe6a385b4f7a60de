/-! Row: below, has, upTo (they only read) -/
set_option maxRecDepth 100000
section ROW
variable {g : Cx} {l : Launch} {d : Nat} {μ : Mem} {k n : Nat}
variable {a kr vr : Nat} {ks : List Int32} {vs : List Int64} {r : Prs}
theorem lp_below {key : Int32} (h1 : μ a = some (cO 4 [.ref kr, .ref vr, .int (nI r.length)])) (h2 : μ kr = some (cI ks)) (hl : r.length ≤ ks.length) (hc : ks.length ≤ capM) (ht : ks.take r.length = r.map (·.1)) (hs : srt r) :
    ∀ (f lw hi : Nat), hi - lw < f → lw ≤ hi → hi ≤ r.length → (∀ i q, i < lw → r[i]? = some q → q.1 < key) → (∀ i q, hi ≤ i → r[i]? = some q → ¬ q.1 < key) →
      bB g l M4_below d (ansQ (some (.int (nI (blw key r)))) μ k n) 7 [(0, .ref a), (1, .int key), (2, .int (nI lw)), (3, .int (nI hi))] [] μ k n := by
  have hcap : ks.length ≤ 1000000 := hc
  intro f
  induction f with
  | zero => intro lw hi h; omega
  | succ f ih =>
    intro lw hi hf h3 h4 h5 h6
    refine b_iload_n dX4_below_7 rfl ?_
    refine b_iload_n dX4_below_8 rfl ?_
    refine b_icmp_ge (tgt := 44) dX4_below_9 (by decide) (fun h9 => ?_) (fun h9 => ?_)
    · rw [nI_leI (by omega) (by omega)] at h9
      have : lw = hi := by omega
      subst this
      refine b_iload_n dX4_below_44 rfl ?_
      first | refine b_iret dX4_below_45 rfl ?_ | refine b_zret dX4_below_45 rfl (by first | rfl | assumption | decide) ?_
      rw [blw_of h4 h5 (fun q hq => h6 _ q (Nat.le_refl _) hq)]
      exact ansQ.mk
    · rw [nI_leI (by omega) (by omega)] at h9
      refine b_iload_n dX4_below_12 rfl ?_
      refine b_iload_n dX4_below_13 rfl ?_
      first | refine b_iaddN dX4_below_14 ?_ | refine b_iadd dX4_below_14 ?_
      refine b_iconst (v := 1) dX4_below_15 (by decide) ?_
      refine b_iushrN dX4_below_16 (by omega) ?_
      obtain ⟨q, hq⟩ := at_of (l := r) (j := (lw + hi) / 2) (by omega)
      have hk := get_of_take ht hq
      have hix : ix ks (nI ((lw + hi) / 2)) = some q.1 := by rw [ix_n (by omega)]; exact hk
      refine b_istore dX4_below_17 (by decide) ?_
      first | refine b_aload_n dX4_below_19 rfl ?_ | refine b_aload_nN dX4_below_19 rfl ?_
      refine b_getf dX4_below_20 f4_9 (by first | assumption | exact mset_s | exact Rep.raw (by assumption) (by assumption) | (refine (mset_n (by first | assumption | exact Ne.symm (by assumption) | exact ne_fr (by assumption) (by assumption) | exact Ne.symm (ne_fr (by assumption) (by assumption)))).trans ?_; first | assumption | exact mset_s | exact Rep.raw (by assumption) (by assumption) | (refine (mset_n (by first | assumption | exact Ne.symm (by assumption) | exact ne_fr (by assumption) (by assumption) | exact Ne.symm (ne_fr (by assumption) (by assumption)))).trans ?_; first | assumption | exact mset_s | exact Rep.raw (by assumption) (by assumption) | (refine (mset_n (by first | assumption | exact Ne.symm (by assumption) | exact ne_fr (by assumption) (by assumption) | exact Ne.symm (ne_fr (by assumption) (by assumption)))).trans ?_; first | assumption | exact mset_s | exact Rep.raw (by assumption) (by assumption) | (refine (mset_n (by first | assumption | exact Ne.symm (by assumption) | exact ne_fr (by assumption) (by assumption) | exact Ne.symm (ne_fr (by assumption) (by assumption)))).trans ?_; first | assumption | exact mset_s | exact Rep.raw (by assumption) (by assumption) | (refine (mset_n (by first | assumption | exact Ne.symm (by assumption) | exact ne_fr (by assumption) (by assumption) | exact Ne.symm (ne_fr (by assumption) (by assumption)))).trans ?_; first | assumption | exact mset_s | exact Rep.raw (by assumption) (by assumption) | (refine (mset_n (by first | assumption | exact Ne.symm (by assumption) | exact ne_fr (by assumption) (by assumption) | exact Ne.symm (ne_fr (by assumption) (by assumption)))).trans ?_; first | assumption | exact mset_s | exact Rep.raw (by assumption) (by assumption) | (refine (mset_n (by first | assumption | exact Ne.symm (by assumption) | exact ne_fr (by assumption) (by assumption) | exact Ne.symm (ne_fr (by assumption) (by assumption)))).trans ?_; assumption)))))))) rfl ?_
      refine b_iload dX4_below_23 rfl ?_
      refine b_iald dX4_below_25 (by first | assumption | exact mset_s | exact Rep.raw (by assumption) (by assumption) | (refine (mset_n (by first | assumption | exact Ne.symm (by assumption) | exact ne_fr (by assumption) (by assumption) | exact Ne.symm (ne_fr (by assumption) (by assumption)))).trans ?_; first | assumption | exact mset_s | exact Rep.raw (by assumption) (by assumption) | (refine (mset_n (by first | assumption | exact Ne.symm (by assumption) | exact ne_fr (by assumption) (by assumption) | exact Ne.symm (ne_fr (by assumption) (by assumption)))).trans ?_; first | assumption | exact mset_s | exact Rep.raw (by assumption) (by assumption) | (refine (mset_n (by first | assumption | exact Ne.symm (by assumption) | exact ne_fr (by assumption) (by assumption) | exact Ne.symm (ne_fr (by assumption) (by assumption)))).trans ?_; first | assumption | exact mset_s | exact Rep.raw (by assumption) (by assumption) | (refine (mset_n (by first | assumption | exact Ne.symm (by assumption) | exact ne_fr (by assumption) (by assumption) | exact Ne.symm (ne_fr (by assumption) (by assumption)))).trans ?_; first | assumption | exact mset_s | exact Rep.raw (by assumption) (by assumption) | (refine (mset_n (by first | assumption | exact Ne.symm (by assumption) | exact ne_fr (by assumption) (by assumption) | exact Ne.symm (ne_fr (by assumption) (by assumption)))).trans ?_; first | assumption | exact mset_s | exact Rep.raw (by assumption) (by assumption) | (refine (mset_n (by first | assumption | exact Ne.symm (by assumption) | exact ne_fr (by assumption) (by assumption) | exact Ne.symm (ne_fr (by assumption) (by assumption)))).trans ?_; first | assumption | exact mset_s | exact Rep.raw (by assumption) (by assumption) | (refine (mset_n (by first | assumption | exact Ne.symm (by assumption) | exact ne_fr (by assumption) (by assumption) | exact Ne.symm (ne_fr (by assumption) (by assumption)))).trans ?_; assumption)))))))) (by first | assumption | exact ix_D (by first | assumption | omega) (by first | assumption | omega)) ?_
      refine b_iload_n dX4_below_26 rfl ?_
      refine b_icmp_ge (tgt := 38) dX4_below_27 (by decide) (fun h27 => ?_) (fun h27 => ?_)
      · refine b_iload dX4_below_38 rfl ?_
        refine b_istore_n dX4_below_40 (by decide) ?_
        refine b_goto (tgt := 7) dX4_below_41 (by decide) ?_
        exact bB.locs rfl (ih lw ((lw + hi) / 2) (by omega) (by omega) (by omega) h5 (fun i p hi' hp => by
          rcases Nat.lt_or_ge ((lw + hi) / 2) i with h | h
          · have := srt_lt hs h hq hp
            rw [i_lt] at *
            rw [i_le] at h27
            omega
          · have e : i = (lw + hi) / 2 := by omega
            subst e
            rw [hq] at hp
            cases hp
            rw [i_lt]
            rw [i_le] at h27
            omega))
      · refine b_iload dX4_below_30 rfl ?_
        refine b_iconst (v := 1) dX4_below_32 (by decide) ?_
        first | refine b_iaddK (c := 1) dX4_below_33 (by decide) ?_ | refine b_iadd dX4_below_33 ?_
        refine b_istore_n dX4_below_34 (by decide) ?_
        refine b_goto (tgt := 41) dX4_below_35 (by decide) ?_
        refine b_goto (tgt := 7) dX4_below_41 (by decide) ?_
        exact bB.locs rfl (ih ((lw + hi) / 2 + 1) hi (by omega) (by omega) (by omega) (fun i p hi' hp => by
          rcases Nat.lt_or_ge i ((lw + hi) / 2) with h | h
          · have := srt_lt hs h hp hq
            rw [i_lt] at *
            rw [i_le] at h27
            omega
          · have e : i = (lw + hi) / 2 := by omega
            subst e
            rw [hq] at hp
            cases hp
            rw [i_lt]
            rw [i_le] at h27
            omega) h6)
theorem sp_below {key : Int32} (h1 : μ a = some (cO 4 [.ref kr, .ref vr, .int (nI r.length)])) (h2 : μ kr = some (cI ks)) (hl : r.length ≤ ks.length) (hc : ks.length ≤ capM) (ht : ks.take r.length = r.map (·.1)) (hs : srt r) :
    Ms g l d k n M4_below [.ref a, .int key] μ (ansQ (some (.int (nI (blw key r)))) μ k n) := by
  refine Ms.of rfl rfl (Nat.le_of_ble_eq_true rfl) ?_
  refine b_iconst (v := 0) dX4_below_0 (by decide) ?_
  refine b_istore_n dX4_below_1 (by decide) ?_
  first | refine b_aload_n dX4_below_2 rfl ?_ | refine b_aload_nN dX4_below_2 rfl ?_
  refine b_getf dX4_below_3 f4_19 (by first | assumption | exact mset_s | exact Rep.raw (by assumption) (by assumption) | (refine (mset_n (by first | assumption | exact Ne.symm (by assumption) | exact ne_fr (by assumption) (by assumption) | exact Ne.symm (ne_fr (by assumption) (by assumption)))).trans ?_; first | assumption | exact mset_s | exact Rep.raw (by assumption) (by assumption) | (refine (mset_n (by first | assumption | exact Ne.symm (by assumption) | exact ne_fr (by assumption) (by assumption) | exact Ne.symm (ne_fr (by assumption) (by assumption)))).trans ?_; first | assumption | exact mset_s | exact Rep.raw (by assumption) (by assumption) | (refine (mset_n (by first | assumption | exact Ne.symm (by assumption) | exact ne_fr (by assumption) (by assumption) | exact Ne.symm (ne_fr (by assumption) (by assumption)))).trans ?_; first | assumption | exact mset_s | exact Rep.raw (by assumption) (by assumption) | (refine (mset_n (by first | assumption | exact Ne.symm (by assumption) | exact ne_fr (by assumption) (by assumption) | exact Ne.symm (ne_fr (by assumption) (by assumption)))).trans ?_; first | assumption | exact mset_s | exact Rep.raw (by assumption) (by assumption) | (refine (mset_n (by first | assumption | exact Ne.symm (by assumption) | exact ne_fr (by assumption) (by assumption) | exact Ne.symm (ne_fr (by assumption) (by assumption)))).trans ?_; first | assumption | exact mset_s | exact Rep.raw (by assumption) (by assumption) | (refine (mset_n (by first | assumption | exact Ne.symm (by assumption) | exact ne_fr (by assumption) (by assumption) | exact Ne.symm (ne_fr (by assumption) (by assumption)))).trans ?_; first | assumption | exact mset_s | exact Rep.raw (by assumption) (by assumption) | (refine (mset_n (by first | assumption | exact Ne.symm (by assumption) | exact ne_fr (by assumption) (by assumption) | exact Ne.symm (ne_fr (by assumption) (by assumption)))).trans ?_; assumption)))))))) rfl ?_
  refine b_istore_n dX4_below_6 (by decide) ?_
  exact bB.locs rfl (lp_below h1 h2 hl hc ht hs (r.length + 1) 0 r.length (by omega) (by omega) (by omega) (fun i q hi => by omega) (fun i q hi hq => by
    have := (List.getElem?_eq_some_iff.mp hq).1
    omega))
/-- the row's cells -/
def rowC (μ : Mem) (a kr vr : Nat) (ks : List Int32) (vs : List Int64) (r : Prs) (c : Nat) : Prop := μ a = some (cO 4 [.ref kr, .ref vr, .int (nI r.length)]) ∧ μ kr = some (cI ks) ∧ μ vr = some (cJ vs) ∧ ks.length = c ∧ vs.length = c ∧ r.length ≤ c ∧ c ≤ capM ∧ ks.take r.length = r.map (·.1) ∧ vs.take r.length = r.map (·.2)
theorem rowC.below {key : Int32} {c : Nat} (h : rowC μ a kr vr ks vs r c) (hs : srt r) : Ms g l d k n M4_below [.ref a, .int key] μ (ansQ (some (.int (nI (blw key r)))) μ k n) := by
  obtain ⟨h1, h2, h3, h4, h5, h6, h7, h8, h9⟩ := h
  subst h4
  exact sp_below h1 h2 h6 h7 h8 hs
/-- how many keys are not above one -/
def upt (key : Int32) (r : Prs) : Nat := if key = 2147483647 then r.length else blw (key + 1) r
theorem rowC.upTo {key : Int32} {c : Nat} (h : rowC μ a kr vr ks vs r c) (hs : srt r) (hd : 1 ≤ d) : Ms g l d k n M4_upTo [.ref a, .int key] μ (ansQ (some (.int (nI (upt key r)))) μ k n) := by
  have h1 := h.1
  refine Ms.of rfl rfl (Nat.le_of_ble_eq_true rfl) ?_
  refine b_iload_n dX4_upTo_0 rfl ?_
  refine b_ldc dX4_upTo_1 q395 ?_
  refine b_icmp_ne (tgt := 13) dX4_upTo_3 (by decide) (fun h3 => ?_) (fun h3 => ?_)
  · first | refine b_aload_n dX4_upTo_13 rfl ?_ | refine b_aload_nN dX4_upTo_13 rfl ?_
    refine b_iload_n dX4_upTo_14 rfl ?_
    refine b_iconst (v := 1) dX4_upTo_15 (by decide) ?_
    refine b_iadd dX4_upTo_16 ?_
    refine b_callA (As := [.ref a, .int (key + 1)]) (rest := []) s4_23 dX4_upTo_17 rfl rfl (fun ci hci => by cases hci; exact ⟨_, _, _, rfl, by first | assumption | exact mset_s | exact Rep.raw (by assumption) (by assumption) | (refine (mset_n (by first | assumption | exact Ne.symm (by assumption) | exact ne_fr (by assumption) (by assumption) | exact Ne.symm (ne_fr (by assumption) (by assumption)))).trans ?_; first | assumption | exact mset_s | exact Rep.raw (by assumption) (by assumption) | (refine (mset_n (by first | assumption | exact Ne.symm (by assumption) | exact ne_fr (by assumption) (by assumption) | exact Ne.symm (ne_fr (by assumption) (by assumption)))).trans ?_; first | assumption | exact mset_s | exact Rep.raw (by assumption) (by assumption) | (refine (mset_n (by first | assumption | exact Ne.symm (by assumption) | exact ne_fr (by assumption) (by assumption) | exact Ne.symm (ne_fr (by assumption) (by assumption)))).trans ?_; first | assumption | exact mset_s | exact Rep.raw (by assumption) (by assumption) | (refine (mset_n (by first | assumption | exact Ne.symm (by assumption) | exact ne_fr (by assumption) (by assumption) | exact Ne.symm (ne_fr (by assumption) (by assumption)))).trans ?_; first | assumption | exact mset_s | exact Rep.raw (by assumption) (by assumption) | (refine (mset_n (by first | assumption | exact Ne.symm (by assumption) | exact ne_fr (by assumption) (by assumption) | exact Ne.symm (ne_fr (by assumption) (by assumption)))).trans ?_; first | assumption | exact mset_s | exact Rep.raw (by assumption) (by assumption) | (refine (mset_n (by first | assumption | exact Ne.symm (by assumption) | exact ne_fr (by assumption) (by assumption) | exact Ne.symm (ne_fr (by assumption) (by assumption)))).trans ?_; first | assumption | exact mset_s | exact Rep.raw (by assumption) (by assumption) | (refine (mset_n (by first | assumption | exact Ne.symm (by assumption) | exact ne_fr (by assumption) (by assumption) | exact Ne.symm (ne_fr (by assumption) (by assumption)))).trans ?_; assumption)))))))⟩) (h.below (d := 0) hs) (by omega) (Nat.le_of_ble_eq_true rfl) ?_
    first | refine b_iret dX4_upTo_20 rfl ?_ | refine b_zret dX4_upTo_20 rfl (by first | rfl | assumption | decide) ?_
    rw [upt, if_neg h3]
    exact ansQ.mk
  · first | refine b_aload_n dX4_upTo_6 rfl ?_ | refine b_aload_nN dX4_upTo_6 rfl ?_
    refine b_getf dX4_upTo_7 f4_19 (by first | assumption | exact mset_s | exact Rep.raw (by assumption) (by assumption) | (refine (mset_n (by first | assumption | exact Ne.symm (by assumption) | exact ne_fr (by assumption) (by assumption) | exact Ne.symm (ne_fr (by assumption) (by assumption)))).trans ?_; first | assumption | exact mset_s | exact Rep.raw (by assumption) (by assumption) | (refine (mset_n (by first | assumption | exact Ne.symm (by assumption) | exact ne_fr (by assumption) (by assumption) | exact Ne.symm (ne_fr (by assumption) (by assumption)))).trans ?_; first | assumption | exact mset_s | exact Rep.raw (by assumption) (by assumption) | (refine (mset_n (by first | assumption | exact Ne.symm (by assumption) | exact ne_fr (by assumption) (by assumption) | exact Ne.symm (ne_fr (by assumption) (by assumption)))).trans ?_; first | assumption | exact mset_s | exact Rep.raw (by assumption) (by assumption) | (refine (mset_n (by first | assumption | exact Ne.symm (by assumption) | exact ne_fr (by assumption) (by assumption) | exact Ne.symm (ne_fr (by assumption) (by assumption)))).trans ?_; first | assumption | exact mset_s | exact Rep.raw (by assumption) (by assumption) | (refine (mset_n (by first | assumption | exact Ne.symm (by assumption) | exact ne_fr (by assumption) (by assumption) | exact Ne.symm (ne_fr (by assumption) (by assumption)))).trans ?_; first | assumption | exact mset_s | exact Rep.raw (by assumption) (by assumption) | (refine (mset_n (by first | assumption | exact Ne.symm (by assumption) | exact ne_fr (by assumption) (by assumption) | exact Ne.symm (ne_fr (by assumption) (by assumption)))).trans ?_; first | assumption | exact mset_s | exact Rep.raw (by assumption) (by assumption) | (refine (mset_n (by first | assumption | exact Ne.symm (by assumption) | exact ne_fr (by assumption) (by assumption) | exact Ne.symm (ne_fr (by assumption) (by assumption)))).trans ?_; assumption)))))))) rfl ?_
    refine b_goto (tgt := 20) dX4_upTo_10 (by decide) ?_
    first | refine b_iret dX4_upTo_20 rfl ?_ | refine b_zret dX4_upTo_20 rfl (by first | rfl | assumption | decide) ?_
    rw [upt, if_pos h3]
    exact ansQ.mk
/-- whether a key is there -/
def hasK (key : Int32) (r : Prs) : Prop := ∃ q, r[blw key r]? = some q ∧ q.1 = key
theorem rowC.has {key : Int32} {c : Nat} (h : rowC μ a kr vr ks vs r c) (hs : srt r) (hd : 1 ≤ d) : (hasK key r → Ms g l d k n M4_has [.ref a, .int key] μ (ansQ (some (.int 1)) μ k n)) ∧ (¬ hasK key r → Ms g l d k n M4_has [.ref a, .int key] μ (ansQ (some (.int 0)) μ k n)) := by
  have hh := h
  obtain ⟨h1, h2, h3, h4, h5, h6, h7, h8, h9⟩ := hh
  have hcap : ks.length ≤ 1000000 := h4 ▸ h7
  have hble := blw_le (key := key) (l := r)
  have key0 : ∀ v : Int32, (hasK key r → v = 1) → (¬ hasK key r → v = 0) → Ms g l d k n M4_has [.ref a, .int key] μ (ansQ (some (.int v)) μ k n) := by
    intro v hv1 hv0
    refine Ms.of rfl rfl (Nat.le_of_ble_eq_true rfl) ?_
    first | refine b_aload_n dX4_has_0 rfl ?_ | refine b_aload_nN dX4_has_0 rfl ?_
    refine b_iload_n dX4_has_1 rfl ?_
    refine b_callA (As := [.ref a, .int key]) (rest := []) s4_23 dX4_has_2 rfl rfl (fun ci hci => by cases hci; exact ⟨_, _, _, rfl, by first | assumption | exact mset_s | exact Rep.raw (by assumption) (by assumption) | (refine (mset_n (by first | assumption | exact Ne.symm (by assumption) | exact ne_fr (by assumption) (by assumption) | exact Ne.symm (ne_fr (by assumption) (by assumption)))).trans ?_; first | assumption | exact mset_s | exact Rep.raw (by assumption) (by assumption) | (refine (mset_n (by first | assumption | exact Ne.symm (by assumption) | exact ne_fr (by assumption) (by assumption) | exact Ne.symm (ne_fr (by assumption) (by assumption)))).trans ?_; first | assumption | exact mset_s | exact Rep.raw (by assumption) (by assumption) | (refine (mset_n (by first | assumption | exact Ne.symm (by assumption) | exact ne_fr (by assumption) (by assumption) | exact Ne.symm (ne_fr (by assumption) (by assumption)))).trans ?_; first | assumption | exact mset_s | exact Rep.raw (by assumption) (by assumption) | (refine (mset_n (by first | assumption | exact Ne.symm (by assumption) | exact ne_fr (by assumption) (by assumption) | exact Ne.symm (ne_fr (by assumption) (by assumption)))).trans ?_; first | assumption | exact mset_s | exact Rep.raw (by assumption) (by assumption) | (refine (mset_n (by first | assumption | exact Ne.symm (by assumption) | exact ne_fr (by assumption) (by assumption) | exact Ne.symm (ne_fr (by assumption) (by assumption)))).trans ?_; first | assumption | exact mset_s | exact Rep.raw (by assumption) (by assumption) | (refine (mset_n (by first | assumption | exact Ne.symm (by assumption) | exact ne_fr (by assumption) (by assumption) | exact Ne.symm (ne_fr (by assumption) (by assumption)))).trans ?_; first | assumption | exact mset_s | exact Rep.raw (by assumption) (by assumption) | (refine (mset_n (by first | assumption | exact Ne.symm (by assumption) | exact ne_fr (by assumption) (by assumption) | exact Ne.symm (ne_fr (by assumption) (by assumption)))).trans ?_; assumption)))))))⟩) (h.below (d := 0) hs) (by omega) (Nat.le_of_ble_eq_true rfl) ?_
    refine b_istore_n dX4_has_5 (by decide) ?_
    refine b_iload_n dX4_has_6 rfl ?_
    first | refine b_aload_n dX4_has_7 rfl ?_ | refine b_aload_nN dX4_has_7 rfl ?_
    refine b_getf dX4_has_8 f4_19 (by first | assumption | exact mset_s | exact Rep.raw (by assumption) (by assumption) | (refine (mset_n (by first | assumption | exact Ne.symm (by assumption) | exact ne_fr (by assumption) (by assumption) | exact Ne.symm (ne_fr (by assumption) (by assumption)))).trans ?_; first | assumption | exact mset_s | exact Rep.raw (by assumption) (by assumption) | (refine (mset_n (by first | assumption | exact Ne.symm (by assumption) | exact ne_fr (by assumption) (by assumption) | exact Ne.symm (ne_fr (by assumption) (by assumption)))).trans ?_; first | assumption | exact mset_s | exact Rep.raw (by assumption) (by assumption) | (refine (mset_n (by first | assumption | exact Ne.symm (by assumption) | exact ne_fr (by assumption) (by assumption) | exact Ne.symm (ne_fr (by assumption) (by assumption)))).trans ?_; first | assumption | exact mset_s | exact Rep.raw (by assumption) (by assumption) | (refine (mset_n (by first | assumption | exact Ne.symm (by assumption) | exact ne_fr (by assumption) (by assumption) | exact Ne.symm (ne_fr (by assumption) (by assumption)))).trans ?_; first | assumption | exact mset_s | exact Rep.raw (by assumption) (by assumption) | (refine (mset_n (by first | assumption | exact Ne.symm (by assumption) | exact ne_fr (by assumption) (by assumption) | exact Ne.symm (ne_fr (by assumption) (by assumption)))).trans ?_; first | assumption | exact mset_s | exact Rep.raw (by assumption) (by assumption) | (refine (mset_n (by first | assumption | exact Ne.symm (by assumption) | exact ne_fr (by assumption) (by assumption) | exact Ne.symm (ne_fr (by assumption) (by assumption)))).trans ?_; first | assumption | exact mset_s | exact Rep.raw (by assumption) (by assumption) | (refine (mset_n (by first | assumption | exact Ne.symm (by assumption) | exact ne_fr (by assumption) (by assumption) | exact Ne.symm (ne_fr (by assumption) (by assumption)))).trans ?_; assumption)))))))) rfl ?_
    refine b_icmp_ge (tgt := 28) dX4_has_11 (by decide) (fun h11 => ?_) (fun h11 => ?_)
    · rw [nI_leI (by omega) (by omega)] at h11
      have e : v = 0 := hv0 (by rintro ⟨q, hq, -⟩; have := (List.getElem?_eq_some_iff.mp hq).1; omega)
      subst e
      refine b_iconst (v := 0) dX4_has_28 (by decide) ?_
      first | refine b_iret dX4_has_29 rfl ?_ | refine b_zret dX4_has_29 rfl (by first | rfl | assumption | decide) ?_
      exact ansQ.mk
    · rw [nI_leI (by omega) (by omega)] at h11
      obtain ⟨q, hq⟩ := at_of (l := r) (j := blw key r) (by omega)
      have hk := get_of_take h8 hq
      have hix : ix ks (nI (blw key r)) = some q.1 := by rw [ix_n (by omega)]; exact hk
      first | refine b_aload_n dX4_has_14 rfl ?_ | refine b_aload_nN dX4_has_14 rfl ?_
      refine b_getf dX4_has_15 f4_9 (by first | assumption | exact mset_s | exact Rep.raw (by assumption) (by assumption) | (refine (mset_n (by first | assumption | exact Ne.symm (by assumption) | exact ne_fr (by assumption) (by assumption) | exact Ne.symm (ne_fr (by assumption) (by assumption)))).trans ?_; first | assumption | exact mset_s | exact Rep.raw (by assumption) (by assumption) | (refine (mset_n (by first | assumption | exact Ne.symm (by assumption) | exact ne_fr (by assumption) (by assumption) | exact Ne.symm (ne_fr (by assumption) (by assumption)))).trans ?_; first | assumption | exact mset_s | exact Rep.raw (by assumption) (by assumption) | (refine (mset_n (by first | assumption | exact Ne.symm (by assumption) | exact ne_fr (by assumption) (by assumption) | exact Ne.symm (ne_fr (by assumption) (by assumption)))).trans ?_; first | assumption | exact mset_s | exact Rep.raw (by assumption) (by assumption) | (refine (mset_n (by first | assumption | exact Ne.symm (by assumption) | exact ne_fr (by assumption) (by assumption) | exact Ne.symm (ne_fr (by assumption) (by assumption)))).trans ?_; first | assumption | exact mset_s | exact Rep.raw (by assumption) (by assumption) | (refine (mset_n (by first | assumption | exact Ne.symm (by assumption) | exact ne_fr (by assumption) (by assumption) | exact Ne.symm (ne_fr (by assumption) (by assumption)))).trans ?_; first | assumption | exact mset_s | exact Rep.raw (by assumption) (by assumption) | (refine (mset_n (by first | assumption | exact Ne.symm (by assumption) | exact ne_fr (by assumption) (by assumption) | exact Ne.symm (ne_fr (by assumption) (by assumption)))).trans ?_; first | assumption | exact mset_s | exact Rep.raw (by assumption) (by assumption) | (refine (mset_n (by first | assumption | exact Ne.symm (by assumption) | exact ne_fr (by assumption) (by assumption) | exact Ne.symm (ne_fr (by assumption) (by assumption)))).trans ?_; assumption)))))))) rfl ?_
      refine b_iload_n dX4_has_18 rfl ?_
      refine b_iald dX4_has_19 (by first | assumption | exact mset_s | exact Rep.raw (by assumption) (by assumption) | (refine (mset_n (by first | assumption | exact Ne.symm (by assumption) | exact ne_fr (by assumption) (by assumption) | exact Ne.symm (ne_fr (by assumption) (by assumption)))).trans ?_; first | assumption | exact mset_s | exact Rep.raw (by assumption) (by assumption) | (refine (mset_n (by first | assumption | exact Ne.symm (by assumption) | exact ne_fr (by assumption) (by assumption) | exact Ne.symm (ne_fr (by assumption) (by assumption)))).trans ?_; first | assumption | exact mset_s | exact Rep.raw (by assumption) (by assumption) | (refine (mset_n (by first | assumption | exact Ne.symm (by assumption) | exact ne_fr (by assumption) (by assumption) | exact Ne.symm (ne_fr (by assumption) (by assumption)))).trans ?_; first | assumption | exact mset_s | exact Rep.raw (by assumption) (by assumption) | (refine (mset_n (by first | assumption | exact Ne.symm (by assumption) | exact ne_fr (by assumption) (by assumption) | exact Ne.symm (ne_fr (by assumption) (by assumption)))).trans ?_; first | assumption | exact mset_s | exact Rep.raw (by assumption) (by assumption) | (refine (mset_n (by first | assumption | exact Ne.symm (by assumption) | exact ne_fr (by assumption) (by assumption) | exact Ne.symm (ne_fr (by assumption) (by assumption)))).trans ?_; first | assumption | exact mset_s | exact Rep.raw (by assumption) (by assumption) | (refine (mset_n (by first | assumption | exact Ne.symm (by assumption) | exact ne_fr (by assumption) (by assumption) | exact Ne.symm (ne_fr (by assumption) (by assumption)))).trans ?_; first | assumption | exact mset_s | exact Rep.raw (by assumption) (by assumption) | (refine (mset_n (by first | assumption | exact Ne.symm (by assumption) | exact ne_fr (by assumption) (by assumption) | exact Ne.symm (ne_fr (by assumption) (by assumption)))).trans ?_; assumption)))))))) (by first | assumption | exact ix_D (by first | assumption | omega) (by first | assumption | omega)) ?_
      refine b_iload_n dX4_has_20 rfl ?_
      refine b_icmp_ne (tgt := 28) dX4_has_21 (by decide) (fun h21 => ?_) (fun h21 => ?_)
      · have e : v = 0 := hv0 (by rintro ⟨p, hp, e⟩; rw [hq] at hp; cases hp; exact h21 e)
        subst e
        refine b_iconst (v := 0) dX4_has_28 (by decide) ?_
        first | refine b_iret dX4_has_29 rfl ?_ | refine b_zret dX4_has_29 rfl (by first | rfl | assumption | decide) ?_
        exact ansQ.mk
      · have e : v = 1 := hv1 ⟨q, hq, h21⟩
        subst e
        refine b_iconst (v := 1) dX4_has_24 (by decide) ?_
        refine b_goto (tgt := 29) dX4_has_25 (by decide) ?_
        first | refine b_iret dX4_has_29 rfl ?_ | refine b_zret dX4_has_29 rfl (by first | rfl | assumption | decide) ?_
        exact ansQ.mk
  exact ⟨fun h => key0 1 (fun _ => rfl) (fun h' => absurd h h'), fun h => key0 0 (fun h' => absurd h' h) (fun _ => rfl)⟩
end ROW
