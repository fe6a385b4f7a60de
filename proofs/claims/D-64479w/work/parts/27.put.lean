/-! Pages.put -/
set_option maxRecDepth 100000
/-- shifting right by b, places above j done -/
def shB {α : Type} (o xs : List α) (b m j : Nat) : Prop := xs.length = o.length ∧ (∀ i, i ≤ j → xs[i]? = o[i]?) ∧ ∀ i, j < i → i < m → xs[i]? = o[i - b]?
theorem shB.start {α : Type} {o : List α} {b m j : Nat} (h : m ≤ j + 1) : shB o o b m j := ⟨rfl, fun _ _ => rfl, fun i h1 h2 => by omega⟩
theorem shB.step {α : Type} {o xs : List α} {b m j : Nat} {x : α} (h : shB o xs b m (j + 1)) (hb : b ≤ j + 1) (hx : xs[j + 1 - b]? = some x) (hj : j + 1 < o.length) : shB o (xs.set (j + 1) x) b m j := by
  obtain ⟨h1, h2, h3⟩ := h
  refine ⟨by rw [List.length_set, h1], fun i hi => ?_, fun i hi hi2 => ?_⟩
  · rw [List.getElem?_set_ne (by omega)]; exact h2 i (by omega)
  · by_cases e : i = j + 1
    · subst e
      rw [List.getElem?_set_self (by omega), ← hx, h2 _ (by omega)]
    · rw [List.getElem?_set_ne (by omega)]; exact h3 i (by omega) hi2
/-- j places from a on hold the other list -/
def cpI {α : Type} (o xs s : List α) (a j : Nat) : Prop := xs.length = o.length ∧ (∀ i, a ≤ i → i < a + j → xs[i]? = s[i - a]?) ∧ ∀ i, (i < a ∨ a + j ≤ i) → xs[i]? = o[i]?
theorem cpI.start {α : Type} {o s : List α} {a : Nat} : cpI o o s a 0 := ⟨rfl, fun i h1 h2 => by omega, fun _ _ => rfl⟩
theorem cpI.step {α : Type} {o xs s : List α} {a j : Nat} {x : α} (h : cpI o xs s a j) (hx : s[j]? = some x) (hj : a + j < o.length) : cpI o (xs.set (a + j) x) s a (j + 1) := by
  obtain ⟨h1, h2, h3⟩ := h
  refine ⟨by rw [List.length_set, h1], fun i hi hi2 => ?_, fun i hi => ?_⟩
  · by_cases e : i = a + j
    · subst e
      rw [List.getElem?_set_self (by omega), ← hx, show a + j - a = j by omega]
    · rw [List.getElem?_set_ne (by omega)]; exact h2 i hi (by omega)
  · rw [List.getElem?_set_ne (by omega)]; exact h3 i (by omega)
/-- some in place of one -/
def putL {β : Type} (ps : List β) (i : Nat) (ss : List β) : List β := ps.take i ++ (ss ++ ps.drop (i + 1))
theorem putL_len {β : Type} {ps ss : List β} {i : Nat} (h : i < ps.length) (hs : 1 ≤ ss.length) : (putL ps i ss).length = ps.length + (ss.length - 1) := by
  simp [putL]; omega
theorem put_fin {α β : Type} {f : β → α} {ps ss : List β} {o xs ys s : List α} {i : Nat} (hi : i < ps.length) (hs : 1 ≤ ss.length) (ho : o.take (ps.length + (ss.length - 1)) = (ps ++ ss.drop 1).map f) (hlo : ps.length + (ss.length - 1) ≤ o.length) (hsh : shB o xs (ss.length - 1) (ps.length + (ss.length - 1)) (i + (ss.length - 1))) (hss : s.take ss.length = ss.map f) (hcp : cpI xs ys s i ss.length) : ys.take (ps.length + (ss.length - 1)) = (putL ps i ss).map f := by
  have get_o : ∀ j b, j < ps.length → ps[j]? = some b → o[j]? = some (f b) := by
    intro j b hj hb
    have : (o.take (ps.length + (ss.length - 1)))[j]? = some (f b) := by
      rw [ho, List.getElem?_map, List.getElem?_append_left hj, hb]; rfl
    rwa [List.getElem?_take, if_pos (by omega)] at this
  apply List.ext_getElem?
  intro j
  rw [List.getElem?_take]
  have e1 : (ps.take i).length = i := by simp; omega
  by_cases hj : j < ps.length + (ss.length - 1)
  · rw [if_pos hj, List.getElem?_map]
    unfold putL
    rcases Nat.lt_or_ge j i with h | h
    · rw [hcp.2.2 j (Or.inl h), hsh.2.1 j (by omega), List.getElem?_append_left (by omega), List.getElem?_take, if_pos h]
      obtain ⟨b, hb⟩ := at_of (l := ps) (j := j) (by omega)
      rw [get_o j b (by omega) hb, hb]
      rfl
    · rw [List.getElem?_append_right (by omega), e1]
      rcases Nat.lt_or_ge j (i + ss.length) with h2 | h2
      · rw [hcp.2.1 j h h2, List.getElem?_append_left (by omega)]
        obtain ⟨b, hb⟩ := at_of (l := ss) (j := j - i) (by omega)
        rw [hb]
        exact get_of_take hss hb
      · rw [hcp.2.2 j (Or.inr h2), hsh.2.2 j (by omega) hj, List.getElem?_append_right (by omega), List.getElem?_drop]
        obtain ⟨b, hb⟩ := at_of (l := ps) (j := j - (ss.length - 1)) (by omega)
        rw [get_o _ b (by omega) hb, show i + 1 + (j - i - ss.length) = j - (ss.length - 1) by omega, hb]
        rfl
  · rw [if_neg hj, List.getElem?_eq_none]
    have := putL_len hi hs
    simp only [List.length_map]
    omega
section PUT
variable {g : Cx} {l : Launch} {d : Nat} {k n : Nat} {α : AM} {a c b i : Nat} {ps ss : List (Nat × Int32)} {c2 : Nat}
theorem lp_put1 (ha : α a = some (oP ps c)) (hab : a ≠ b) (hb : α b = some (oP ss c2)) (hps : allG α ps) (hss : allG α ss) {Q : Outcome → Mem → Nat → Nat → Prop} (hs : 1 ≤ ss.length)
    (hend : ∀ (μ : Mem) (c1 k1 n1 : Nat), Rep (aset α a (oP (ps ++ ss.drop 1) c1)) μ → gP c k n c1 k1 n1 (ps.length + (ss.length - 1)) → 4 ≤ c1 → bB g l M10_put d Q 33 [(0, .ref a), (1, .int (nI i)), (2, .ref b)] [] μ k1 n1) (hN : ps.length + ss.length ≤ 40000) :
    ∀ (f j c1 : Nat) (μ : Mem) (k1 n1 : Nat), ss.length - j < f → 1 ≤ j → j ≤ ss.length → Rep (aset α a (oP (ps ++ (ss.take j).drop 1) c1)) μ → 4 ≤ c1 → c1 ≤ 100000 → gP c k n c1 k1 n1 (ps.length + (ss.length - 1)) → 2 * (ps.length + (ss.length - 1)) ≤ 2 * k1 + c1 → 8 * (ps.length + (ss.length - 1)) ≤ n1 + 4 * c1 → 1 ≤ d →
      bB g l M10_put d Q 2 [(0, .ref a), (1, .int (nI i)), (2, .ref b), (3, .int (nI j))] [] μ k1 n1 := by
  intro f
  induction f with
  | zero => intro j c1 μ k1 n1 h; omega
  | succ f ih =>
    intro j c1 μ k1 n1 hf hj1 hj hR h4 hc hg hk hn hd
    have hb1 : aset α a (oP (ps ++ (ss.take j).drop 1) c1) b = some (oP ss c2) := (aset_n hab.symm).trans hb
    obtain ⟨x, y, xs, ks, m1, m2, m3, e1, e2, hle, hcap, ht, hu⟩ := hR.pgs hb1
    obtain ⟨x', y', xs', ks', m1', -⟩ := hR.pgs (α := aset α a (oP (ps ++ (ss.take j).drop 1) c1)) aset_s
    have hcap' : c2 ≤ 1000000 := hcap
    refine b_iload_n dX10_put_2 rfl ?_
    first | refine b_aload_n dX10_put_3 rfl ?_ | refine b_aload_nN dX10_put_3 rfl ?_
    refine b_getf dX10_put_4 f10_19 (by first | assumption | exact mset_s | exact Rep.raw (by assumption) (by assumption) | (refine (mset_n (by first | assumption | exact Ne.symm (by assumption) | exact ne_fr (by assumption) (by assumption) | exact Ne.symm (ne_fr (by assumption) (by assumption)))).trans ?_; first | assumption | exact mset_s | exact Rep.raw (by assumption) (by assumption) | (refine (mset_n (by first | assumption | exact Ne.symm (by assumption) | exact ne_fr (by assumption) (by assumption) | exact Ne.symm (ne_fr (by assumption) (by assumption)))).trans ?_; first | assumption | exact mset_s | exact Rep.raw (by assumption) (by assumption) | (refine (mset_n (by first | assumption | exact Ne.symm (by assumption) | exact ne_fr (by assumption) (by assumption) | exact Ne.symm (ne_fr (by assumption) (by assumption)))).trans ?_; first | assumption | exact mset_s | exact Rep.raw (by assumption) (by assumption) | (refine (mset_n (by first | assumption | exact Ne.symm (by assumption) | exact ne_fr (by assumption) (by assumption) | exact Ne.symm (ne_fr (by assumption) (by assumption)))).trans ?_; first | assumption | exact mset_s | exact Rep.raw (by assumption) (by assumption) | (refine (mset_n (by first | assumption | exact Ne.symm (by assumption) | exact ne_fr (by assumption) (by assumption) | exact Ne.symm (ne_fr (by assumption) (by assumption)))).trans ?_; first | assumption | exact mset_s | exact Rep.raw (by assumption) (by assumption) | (refine (mset_n (by first | assumption | exact Ne.symm (by assumption) | exact ne_fr (by assumption) (by assumption) | exact Ne.symm (ne_fr (by assumption) (by assumption)))).trans ?_; first | assumption | exact mset_s | exact Rep.raw (by assumption) (by assumption) | (refine (mset_n (by first | assumption | exact Ne.symm (by assumption) | exact ne_fr (by assumption) (by assumption) | exact Ne.symm (ne_fr (by assumption) (by assumption)))).trans ?_; assumption)))))))) rfl ?_
    refine b_icmp_ge (tgt := 33) dX10_put_7 (by decide) (fun h7 => ?_) (fun h7 => ?_)
    · rw [nI_leI (by omega) (by omega)] at h7
      have e : j = ss.length := by omega
      subst e
      rw [List.take_length] at hR
      exact bB.locs rfl (hend μ c1 k1 n1 hR hg h4)
    · rw [nI_leI (by omega) (by omega)] at h7
      obtain ⟨q, hq⟩ := at_of (l := ss) (j := j) (by omega)
      have hx := get_of_take ht hq
      have hy := get_of_take hu hq
      have hix : ix xs (nI j) = some (some q.1) := by rw [ix_n (by omega)]; exact hx
      have hiy : ix ks (nI j) = some q.2 := by rw [ix_n (by omega)]; exact hy
      have hpg : ∀ p, isPg α p → isPg (aset α a (oP (ps ++ (ss.take j).drop 1) c1)) p := by
        intro p hp
        rcases hp with ⟨fs, h⟩ | ⟨fs, h⟩
        · exact Or.inl ⟨fs, raw_set ha oP_ne h⟩
        · exact Or.inr ⟨fs, raw_set ha oP_ne h⟩
      have hall : allG (aset α a (oP (ps ++ (ss.take j).drop 1) c1)) (ps ++ (ss.take j).drop 1) := by
        intro z hz
        rcases List.mem_append.mp hz with hz | hz
        · exact hpg _ (hps z hz)
        · exact hpg _ (hss z (List.mem_of_mem_take (List.mem_of_mem_drop hz)))
      have hlen : (ps ++ (ss.take j).drop 1).length = ps.length + (j - 1) := by simp; omega
      first | refine b_aload_n dX10_put_10 rfl ?_ | refine b_aload_nN dX10_put_10 rfl ?_
      first | refine b_aload_n dX10_put_11 rfl ?_ | refine b_aload_nN dX10_put_11 rfl ?_
      refine b_getf dX10_put_12 f10_9 (by first | assumption | exact mset_s | exact Rep.raw (by assumption) (by assumption) | (refine (mset_n (by first | assumption | exact Ne.symm (by assumption) | exact ne_fr (by assumption) (by assumption) | exact Ne.symm (ne_fr (by assumption) (by assumption)))).trans ?_; first | assumption | exact mset_s | exact Rep.raw (by assumption) (by assumption) | (refine (mset_n (by first | assumption | exact Ne.symm (by assumption) | exact ne_fr (by assumption) (by assumption) | exact Ne.symm (ne_fr (by assumption) (by assumption)))).trans ?_; first | assumption | exact mset_s | exact Rep.raw (by assumption) (by assumption) | (refine (mset_n (by first | assumption | exact Ne.symm (by assumption) | exact ne_fr (by assumption) (by assumption) | exact Ne.symm (ne_fr (by assumption) (by assumption)))).trans ?_; first | assumption | exact mset_s | exact Rep.raw (by assumption) (by assumption) | (refine (mset_n (by first | assumption | exact Ne.symm (by assumption) | exact ne_fr (by assumption) (by assumption) | exact Ne.symm (ne_fr (by assumption) (by assumption)))).trans ?_; first | assumption | exact mset_s | exact Rep.raw (by assumption) (by assumption) | (refine (mset_n (by first | assumption | exact Ne.symm (by assumption) | exact ne_fr (by assumption) (by assumption) | exact Ne.symm (ne_fr (by assumption) (by assumption)))).trans ?_; first | assumption | exact mset_s | exact Rep.raw (by assumption) (by assumption) | (refine (mset_n (by first | assumption | exact Ne.symm (by assumption) | exact ne_fr (by assumption) (by assumption) | exact Ne.symm (ne_fr (by assumption) (by assumption)))).trans ?_; first | assumption | exact mset_s | exact Rep.raw (by assumption) (by assumption) | (refine (mset_n (by first | assumption | exact Ne.symm (by assumption) | exact ne_fr (by assumption) (by assumption) | exact Ne.symm (ne_fr (by assumption) (by assumption)))).trans ?_; assumption)))))))) rfl ?_
      refine b_iload_n dX10_put_15 rfl ?_
      refine b_aald dX10_put_16 (by first | assumption | exact mset_s | exact Rep.raw (by assumption) (by assumption) | (refine (mset_n (by first | assumption | exact Ne.symm (by assumption) | exact ne_fr (by assumption) (by assumption) | exact Ne.symm (ne_fr (by assumption) (by assumption)))).trans ?_; first | assumption | exact mset_s | exact Rep.raw (by assumption) (by assumption) | (refine (mset_n (by first | assumption | exact Ne.symm (by assumption) | exact ne_fr (by assumption) (by assumption) | exact Ne.symm (ne_fr (by assumption) (by assumption)))).trans ?_; first | assumption | exact mset_s | exact Rep.raw (by assumption) (by assumption) | (refine (mset_n (by first | assumption | exact Ne.symm (by assumption) | exact ne_fr (by assumption) (by assumption) | exact Ne.symm (ne_fr (by assumption) (by assumption)))).trans ?_; first | assumption | exact mset_s | exact Rep.raw (by assumption) (by assumption) | (refine (mset_n (by first | assumption | exact Ne.symm (by assumption) | exact ne_fr (by assumption) (by assumption) | exact Ne.symm (ne_fr (by assumption) (by assumption)))).trans ?_; first | assumption | exact mset_s | exact Rep.raw (by assumption) (by assumption) | (refine (mset_n (by first | assumption | exact Ne.symm (by assumption) | exact ne_fr (by assumption) (by assumption) | exact Ne.symm (ne_fr (by assumption) (by assumption)))).trans ?_; first | assumption | exact mset_s | exact Rep.raw (by assumption) (by assumption) | (refine (mset_n (by first | assumption | exact Ne.symm (by assumption) | exact ne_fr (by assumption) (by assumption) | exact Ne.symm (ne_fr (by assumption) (by assumption)))).trans ?_; first | assumption | exact mset_s | exact Rep.raw (by assumption) (by assumption) | (refine (mset_n (by first | assumption | exact Ne.symm (by assumption) | exact ne_fr (by assumption) (by assumption) | exact Ne.symm (ne_fr (by assumption) (by assumption)))).trans ?_; assumption)))))))) (by decide) (by first | assumption | exact ix_D (by first | assumption | omega) (by first | assumption | omega)) ?_
      first | refine b_aload_n dX10_put_17 rfl ?_ | refine b_aload_nN dX10_put_17 rfl ?_
      refine b_getf dX10_put_18 f10_15 (by first | assumption | exact mset_s | exact Rep.raw (by assumption) (by assumption) | (refine (mset_n (by first | assumption | exact Ne.symm (by assumption) | exact ne_fr (by assumption) (by assumption) | exact Ne.symm (ne_fr (by assumption) (by assumption)))).trans ?_; first | assumption | exact mset_s | exact Rep.raw (by assumption) (by assumption) | (refine (mset_n (by first | assumption | exact Ne.symm (by assumption) | exact ne_fr (by assumption) (by assumption) | exact Ne.symm (ne_fr (by assumption) (by assumption)))).trans ?_; first | assumption | exact mset_s | exact Rep.raw (by assumption) (by assumption) | (refine (mset_n (by first | assumption | exact Ne.symm (by assumption) | exact ne_fr (by assumption) (by assumption) | exact Ne.symm (ne_fr (by assumption) (by assumption)))).trans ?_; first | assumption | exact mset_s | exact Rep.raw (by assumption) (by assumption) | (refine (mset_n (by first | assumption | exact Ne.symm (by assumption) | exact ne_fr (by assumption) (by assumption) | exact Ne.symm (ne_fr (by assumption) (by assumption)))).trans ?_; first | assumption | exact mset_s | exact Rep.raw (by assumption) (by assumption) | (refine (mset_n (by first | assumption | exact Ne.symm (by assumption) | exact ne_fr (by assumption) (by assumption) | exact Ne.symm (ne_fr (by assumption) (by assumption)))).trans ?_; first | assumption | exact mset_s | exact Rep.raw (by assumption) (by assumption) | (refine (mset_n (by first | assumption | exact Ne.symm (by assumption) | exact ne_fr (by assumption) (by assumption) | exact Ne.symm (ne_fr (by assumption) (by assumption)))).trans ?_; first | assumption | exact mset_s | exact Rep.raw (by assumption) (by assumption) | (refine (mset_n (by first | assumption | exact Ne.symm (by assumption) | exact ne_fr (by assumption) (by assumption) | exact Ne.symm (ne_fr (by assumption) (by assumption)))).trans ?_; assumption)))))))) rfl ?_
      refine b_iload_n dX10_put_21 rfl ?_
      refine b_iald dX10_put_22 (by first | assumption | exact mset_s | exact Rep.raw (by assumption) (by assumption) | (refine (mset_n (by first | assumption | exact Ne.symm (by assumption) | exact ne_fr (by assumption) (by assumption) | exact Ne.symm (ne_fr (by assumption) (by assumption)))).trans ?_; first | assumption | exact mset_s | exact Rep.raw (by assumption) (by assumption) | (refine (mset_n (by first | assumption | exact Ne.symm (by assumption) | exact ne_fr (by assumption) (by assumption) | exact Ne.symm (ne_fr (by assumption) (by assumption)))).trans ?_; first | assumption | exact mset_s | exact Rep.raw (by assumption) (by assumption) | (refine (mset_n (by first | assumption | exact Ne.symm (by assumption) | exact ne_fr (by assumption) (by assumption) | exact Ne.symm (ne_fr (by assumption) (by assumption)))).trans ?_; first | assumption | exact mset_s | exact Rep.raw (by assumption) (by assumption) | (refine (mset_n (by first | assumption | exact Ne.symm (by assumption) | exact ne_fr (by assumption) (by assumption) | exact Ne.symm (ne_fr (by assumption) (by assumption)))).trans ?_; first | assumption | exact mset_s | exact Rep.raw (by assumption) (by assumption) | (refine (mset_n (by first | assumption | exact Ne.symm (by assumption) | exact ne_fr (by assumption) (by assumption) | exact Ne.symm (ne_fr (by assumption) (by assumption)))).trans ?_; first | assumption | exact mset_s | exact Rep.raw (by assumption) (by assumption) | (refine (mset_n (by first | assumption | exact Ne.symm (by assumption) | exact ne_fr (by assumption) (by assumption) | exact Ne.symm (ne_fr (by assumption) (by assumption)))).trans ?_; first | assumption | exact mset_s | exact Rep.raw (by assumption) (by assumption) | (refine (mset_n (by first | assumption | exact Ne.symm (by assumption) | exact ne_fr (by assumption) (by assumption) | exact Ne.symm (ne_fr (by assumption) (by assumption)))).trans ?_; assumption)))))))) (by first | assumption | exact ix_D (by first | assumption | omega) (by first | assumption | omega)) ?_
      refine b_call (As := [.ref a, .ref q.1, .int q.2]) (rest := []) s10_23 dX10_put_23 rfl rfl (fun ci hci => by cases hci; exact ⟨_, _, _, rfl, by first | assumption | exact mset_s | exact Rep.raw (by assumption) (by assumption) | (refine (mset_n (by first | assumption | exact Ne.symm (by assumption) | exact ne_fr (by assumption) (by assumption) | exact Ne.symm (ne_fr (by assumption) (by assumption)))).trans ?_; first | assumption | exact mset_s | exact Rep.raw (by assumption) (by assumption) | (refine (mset_n (by first | assumption | exact Ne.symm (by assumption) | exact ne_fr (by assumption) (by assumption) | exact Ne.symm (ne_fr (by assumption) (by assumption)))).trans ?_; first | assumption | exact mset_s | exact Rep.raw (by assumption) (by assumption) | (refine (mset_n (by first | assumption | exact Ne.symm (by assumption) | exact ne_fr (by assumption) (by assumption) | exact Ne.symm (ne_fr (by assumption) (by assumption)))).trans ?_; first | assumption | exact mset_s | exact Rep.raw (by assumption) (by assumption) | (refine (mset_n (by first | assumption | exact Ne.symm (by assumption) | exact ne_fr (by assumption) (by assumption) | exact Ne.symm (ne_fr (by assumption) (by assumption)))).trans ?_; first | assumption | exact mset_s | exact Rep.raw (by assumption) (by assumption) | (refine (mset_n (by first | assumption | exact Ne.symm (by assumption) | exact ne_fr (by assumption) (by assumption) | exact Ne.symm (ne_fr (by assumption) (by assumption)))).trans ?_; first | assumption | exact mset_s | exact Rep.raw (by assumption) (by assumption) | (refine (mset_n (by first | assumption | exact Ne.symm (by assumption) | exact ne_fr (by assumption) (by assumption) | exact Ne.symm (ne_fr (by assumption) (by assumption)))).trans ?_; first | assumption | exact mset_s | exact Rep.raw (by assumption) (by assumption) | (refine (mset_n (by first | assumption | exact Ne.symm (by assumption) | exact ne_fr (by assumption) (by assumption) | exact Ne.symm (ne_fr (by assumption) (by assumption)))).trans ?_; assumption)))))))⟩) (sp_padd' (d := 0) aset_s (hpg _ (hss q (List.mem_of_getElem? hq))) hall (N := ps.length + (ss.length - 1)) (by omega) h4 hc hk hn _ hR) (by first | (rintro _ _ _ _ ⟨h, -⟩; exact ⟨_, h⟩) | (rintro _ _ _ _ ⟨_, _, h, -⟩; exact ⟨_, h⟩) | (rintro _ _ _ _ ⟨_, _, _, h, -⟩; exact ⟨_, h⟩) | (rintro _ _ _ _ ⟨_, _, _, _, h, -⟩; exact ⟨_, h⟩)) (by omega) (Nat.le_of_ble_eq_true rfl) (fun v1 μ1 k1 n1 hk1 hn1 hQ1 => ?_)
      obtain ⟨α2, hR2, z1, c3, z2, z3⟩ := hQ1
      cases z1
      rw [aset2] at z2
      have e2 : ps ++ (ss.take j).drop 1 ++ [q] = ps ++ (ss.take (j + 1)).drop 1 := by
        rw [List.append_assoc, List.take_succ, hq, List.drop_append_of_le_length (by simp; omega)]; rfl
      have e3 : (q.1, q.2) = q := rfl
      rw [e3, e2] at z2
      subst z2
      refine b_pop dX10_put_26 rfl ?_
      first | refine b_iincN dX10_put_27 rfl (by decide) ?_ | refine b_iinc1 dX10_put_27 rfl (by decide) ?_
      refine b_goto (tgt := 2) dX10_put_30 (by decide) ?_
      have z3' := z3
      unfold gP at z3'
      exact bB.locs rfl (ih (j + 1) c3 _ _ _ (by omega) (by omega) (by omega) hR2 (by omega) (by omega) (hg.tr z3) (by omega) (by omega) hd)
theorem lp_put2 {μ : Mem} {x y m z : Nat} {o : List (Option Nat)} {ko : List Int32} {Q : Outcome → Mem → Nat → Nat → Prop} (hlo : o.length ≤ capM) (hko : ko.length = o.length) (hm : m ≤ o.length) (n1 : a ≠ x) (n2 : a ≠ y) (n3 : x ≠ y) (hpg : ∀ j, j < m → ∃ v ci fs, o[j]? = some (some v) ∧ okR 5 ci ∧ μ v = some (cO ci fs)) (m1 : μ a = some (cO 10 [.ref x, .ref y, .int (nI m)])) (m20 : μ x = some (cR 5 o)) (m30 : μ y = some (cI ko))
    (hend : ∀ (μc : Mem) (xs : List (Option Nat)) (ks : List Int32), shB o xs z m (i + z) → shB ko ks z m (i + z) → μc x = some (cR 5 xs) → μc y = some (cI ks) → (∀ q, q ≠ x → q ≠ y → μc q = μ q) → bB g l M10_put d Q 94 [(0, .ref a), (1, .int (nI i)), (2, .ref b), (3, .int (nI z))] [] μc k n) :
    ∀ (j : Nat) (μc : Mem) (xs : List (Option Nat)) (ks : List Int32), i + z ≤ j → j < m → shB o xs z m j → shB ko ks z m j → μc x = some (cR 5 xs) → μc y = some (cI ks) → (∀ q, q ≠ x → q ≠ y → μc q = μ q) →
      bB g l M10_put d Q 48 [(0, .ref a), (1, .int (nI i)), (2, .ref b), (3, .int (nI z)), (4, .int (nI j))] [] μc k n := by
  have hcap : o.length ≤ 1000000 := hlo
  intro j
  induction j with
  | zero =>
    intro μc xs ks h1 h2 h3 h4 m2 m3 mo
    refine b_iload dX10_put_48 rfl ?_
    refine b_iload_n dX10_put_50 rfl ?_
    refine b_iload_n dX10_put_51 rfl ?_
    first | refine b_iaddN dX10_put_52 ?_ | refine b_iadd dX10_put_52 ?_
    refine b_icmp_le (tgt := 94) dX10_put_53 (by decide) (fun h53 => ?_) (fun h53 => ?_)
    · have e : i + z = 0 := by omega
      exact bB.locs rfl (hend μc xs ks (e ▸ h3) (e ▸ h4) m2 m3 mo)
    · rw [nI_leI (by omega) (by omega)] at h53
      omega
  | succ j ih =>
    intro μc xs ks h1 h2 h3 h4 m2 m3 mo
    have c1 := (mo a n1 n2).trans m1
    have hlx := h3.1
    have hly := h4.1
    refine b_iload dX10_put_48 rfl ?_
    refine b_iload_n dX10_put_50 rfl ?_
    refine b_iload_n dX10_put_51 rfl ?_
    first | refine b_iaddN dX10_put_52 ?_ | refine b_iadd dX10_put_52 ?_
    refine b_icmp_le (tgt := 94) dX10_put_53 (by decide) (fun h53 => ?_) (fun h53 => ?_)
    · rw [nI_leI (by omega) (by omega)] at h53
      have e : i + z = j + 1 := by omega
      exact bB.locs rfl (hend μc xs ks (e ▸ h3) (e ▸ h4) m2 m3 mo)
    · rw [nI_leI (by omega) (by omega)] at h53
      obtain ⟨v, ci, fs, hv, hok, hvv⟩ := hpg (j + 1 - z) (by omega)
      have hx : xs[j + 1 - z]? = some (some v) := by rw [h3.2.1 _ (by omega)]; exact hv
      obtain ⟨w, hw⟩ := at_of (l := ks) (j := j + 1 - z) (by omega)
      have hix : ix xs (nI (j + 1 - z)) = some (some v) := by rw [ix_n (by omega)]; exact hx
      have hiy : ix ks (nI (j + 1 - z)) = some w := by rw [ix_n (by omega)]; exact hw
      have nx : v ≠ x := ne_cc hvv m20 (by intro h; cases h)
      have ny : v ≠ y := ne_cc hvv m30 (by intro h; cases h)
      have cv : μc v = some (cO ci fs) := (mo v nx ny).trans hvv
      first | refine b_aload_n dX10_put_56 rfl ?_ | refine b_aload_nN dX10_put_56 rfl ?_
      refine b_getf dX10_put_57 f10_9 (by first | assumption | exact mset_s | exact Rep.raw (by assumption) (by assumption) | (refine (mset_n (by first | assumption | exact Ne.symm (by assumption) | exact ne_fr (by assumption) (by assumption) | exact Ne.symm (ne_fr (by assumption) (by assumption)))).trans ?_; first | assumption | exact mset_s | exact Rep.raw (by assumption) (by assumption) | (refine (mset_n (by first | assumption | exact Ne.symm (by assumption) | exact ne_fr (by assumption) (by assumption) | exact Ne.symm (ne_fr (by assumption) (by assumption)))).trans ?_; first | assumption | exact mset_s | exact Rep.raw (by assumption) (by assumption) | (refine (mset_n (by first | assumption | exact Ne.symm (by assumption) | exact ne_fr (by assumption) (by assumption) | exact Ne.symm (ne_fr (by assumption) (by assumption)))).trans ?_; first | assumption | exact mset_s | exact Rep.raw (by assumption) (by assumption) | (refine (mset_n (by first | assumption | exact Ne.symm (by assumption) | exact ne_fr (by assumption) (by assumption) | exact Ne.symm (ne_fr (by assumption) (by assumption)))).trans ?_; first | assumption | exact mset_s | exact Rep.raw (by assumption) (by assumption) | (refine (mset_n (by first | assumption | exact Ne.symm (by assumption) | exact ne_fr (by assumption) (by assumption) | exact Ne.symm (ne_fr (by assumption) (by assumption)))).trans ?_; first | assumption | exact mset_s | exact Rep.raw (by assumption) (by assumption) | (refine (mset_n (by first | assumption | exact Ne.symm (by assumption) | exact ne_fr (by assumption) (by assumption) | exact Ne.symm (ne_fr (by assumption) (by assumption)))).trans ?_; first | assumption | exact mset_s | exact Rep.raw (by assumption) (by assumption) | (refine (mset_n (by first | assumption | exact Ne.symm (by assumption) | exact ne_fr (by assumption) (by assumption) | exact Ne.symm (ne_fr (by assumption) (by assumption)))).trans ?_; assumption)))))))) rfl ?_
      refine b_iload dX10_put_60 rfl ?_
      first | refine b_aload_n dX10_put_62 rfl ?_ | refine b_aload_nN dX10_put_62 rfl ?_
      refine b_getf dX10_put_63 f10_9 (by first | assumption | exact mset_s | exact Rep.raw (by assumption) (by assumption) | (refine (mset_n (by first | assumption | exact Ne.symm (by assumption) | exact ne_fr (by assumption) (by assumption) | exact Ne.symm (ne_fr (by assumption) (by assumption)))).trans ?_; first | assumption | exact mset_s | exact Rep.raw (by assumption) (by assumption) | (refine (mset_n (by first | assumption | exact Ne.symm (by assumption) | exact ne_fr (by assumption) (by assumption) | exact Ne.symm (ne_fr (by assumption) (by assumption)))).trans ?_; first | assumption | exact mset_s | exact Rep.raw (by assumption) (by assumption) | (refine (mset_n (by first | assumption | exact Ne.symm (by assumption) | exact ne_fr (by assumption) (by assumption) | exact Ne.symm (ne_fr (by assumption) (by assumption)))).trans ?_; first | assumption | exact mset_s | exact Rep.raw (by assumption) (by assumption) | (refine (mset_n (by first | assumption | exact Ne.symm (by assumption) | exact ne_fr (by assumption) (by assumption) | exact Ne.symm (ne_fr (by assumption) (by assumption)))).trans ?_; first | assumption | exact mset_s | exact Rep.raw (by assumption) (by assumption) | (refine (mset_n (by first | assumption | exact Ne.symm (by assumption) | exact ne_fr (by assumption) (by assumption) | exact Ne.symm (ne_fr (by assumption) (by assumption)))).trans ?_; first | assumption | exact mset_s | exact Rep.raw (by assumption) (by assumption) | (refine (mset_n (by first | assumption | exact Ne.symm (by assumption) | exact ne_fr (by assumption) (by assumption) | exact Ne.symm (ne_fr (by assumption) (by assumption)))).trans ?_; first | assumption | exact mset_s | exact Rep.raw (by assumption) (by assumption) | (refine (mset_n (by first | assumption | exact Ne.symm (by assumption) | exact ne_fr (by assumption) (by assumption) | exact Ne.symm (ne_fr (by assumption) (by assumption)))).trans ?_; assumption)))))))) rfl ?_
      refine b_iload dX10_put_66 rfl ?_
      refine b_iload_n dX10_put_68 rfl ?_
      first | refine b_isubN dX10_put_69 (by omega) ?_ | refine b_isub dX10_put_69 ?_
      refine b_aald dX10_put_70 (by first | assumption | exact mset_s | exact Rep.raw (by assumption) (by assumption) | (refine (mset_n (by first | assumption | exact Ne.symm (by assumption) | exact ne_fr (by assumption) (by assumption) | exact Ne.symm (ne_fr (by assumption) (by assumption)))).trans ?_; first | assumption | exact mset_s | exact Rep.raw (by assumption) (by assumption) | (refine (mset_n (by first | assumption | exact Ne.symm (by assumption) | exact ne_fr (by assumption) (by assumption) | exact Ne.symm (ne_fr (by assumption) (by assumption)))).trans ?_; first | assumption | exact mset_s | exact Rep.raw (by assumption) (by assumption) | (refine (mset_n (by first | assumption | exact Ne.symm (by assumption) | exact ne_fr (by assumption) (by assumption) | exact Ne.symm (ne_fr (by assumption) (by assumption)))).trans ?_; first | assumption | exact mset_s | exact Rep.raw (by assumption) (by assumption) | (refine (mset_n (by first | assumption | exact Ne.symm (by assumption) | exact ne_fr (by assumption) (by assumption) | exact Ne.symm (ne_fr (by assumption) (by assumption)))).trans ?_; first | assumption | exact mset_s | exact Rep.raw (by assumption) (by assumption) | (refine (mset_n (by first | assumption | exact Ne.symm (by assumption) | exact ne_fr (by assumption) (by assumption) | exact Ne.symm (ne_fr (by assumption) (by assumption)))).trans ?_; first | assumption | exact mset_s | exact Rep.raw (by assumption) (by assumption) | (refine (mset_n (by first | assumption | exact Ne.symm (by assumption) | exact ne_fr (by assumption) (by assumption) | exact Ne.symm (ne_fr (by assumption) (by assumption)))).trans ?_; first | assumption | exact mset_s | exact Rep.raw (by assumption) (by assumption) | (refine (mset_n (by first | assumption | exact Ne.symm (by assumption) | exact ne_fr (by assumption) (by assumption) | exact Ne.symm (ne_fr (by assumption) (by assumption)))).trans ?_; assumption)))))))) (by decide) (by first | assumption | exact ix_D (by first | assumption | omega) (by first | assumption | omega)) ?_
      refine b_aast dX10_put_71 m2 (by decide) cv hok (ixs_n (by omega) (by omega)) ?_
      first | refine b_aload_n dX10_put_72 rfl ?_ | refine b_aload_nN dX10_put_72 rfl ?_
      refine b_getf dX10_put_73 f10_15 (by first | assumption | exact mset_s | exact Rep.raw (by assumption) (by assumption) | (refine (mset_n (by first | assumption | exact Ne.symm (by assumption) | exact ne_fr (by assumption) (by assumption) | exact Ne.symm (ne_fr (by assumption) (by assumption)))).trans ?_; first | assumption | exact mset_s | exact Rep.raw (by assumption) (by assumption) | (refine (mset_n (by first | assumption | exact Ne.symm (by assumption) | exact ne_fr (by assumption) (by assumption) | exact Ne.symm (ne_fr (by assumption) (by assumption)))).trans ?_; first | assumption | exact mset_s | exact Rep.raw (by assumption) (by assumption) | (refine (mset_n (by first | assumption | exact Ne.symm (by assumption) | exact ne_fr (by assumption) (by assumption) | exact Ne.symm (ne_fr (by assumption) (by assumption)))).trans ?_; first | assumption | exact mset_s | exact Rep.raw (by assumption) (by assumption) | (refine (mset_n (by first | assumption | exact Ne.symm (by assumption) | exact ne_fr (by assumption) (by assumption) | exact Ne.symm (ne_fr (by assumption) (by assumption)))).trans ?_; first | assumption | exact mset_s | exact Rep.raw (by assumption) (by assumption) | (refine (mset_n (by first | assumption | exact Ne.symm (by assumption) | exact ne_fr (by assumption) (by assumption) | exact Ne.symm (ne_fr (by assumption) (by assumption)))).trans ?_; first | assumption | exact mset_s | exact Rep.raw (by assumption) (by assumption) | (refine (mset_n (by first | assumption | exact Ne.symm (by assumption) | exact ne_fr (by assumption) (by assumption) | exact Ne.symm (ne_fr (by assumption) (by assumption)))).trans ?_; first | assumption | exact mset_s | exact Rep.raw (by assumption) (by assumption) | (refine (mset_n (by first | assumption | exact Ne.symm (by assumption) | exact ne_fr (by assumption) (by assumption) | exact Ne.symm (ne_fr (by assumption) (by assumption)))).trans ?_; assumption)))))))) rfl ?_
      refine b_iload dX10_put_76 rfl ?_
      first | refine b_aload_n dX10_put_78 rfl ?_ | refine b_aload_nN dX10_put_78 rfl ?_
      refine b_getf dX10_put_79 f10_15 (by first | assumption | exact mset_s | exact Rep.raw (by assumption) (by assumption) | (refine (mset_n (by first | assumption | exact Ne.symm (by assumption) | exact ne_fr (by assumption) (by assumption) | exact Ne.symm (ne_fr (by assumption) (by assumption)))).trans ?_; first | assumption | exact mset_s | exact Rep.raw (by assumption) (by assumption) | (refine (mset_n (by first | assumption | exact Ne.symm (by assumption) | exact ne_fr (by assumption) (by assumption) | exact Ne.symm (ne_fr (by assumption) (by assumption)))).trans ?_; first | assumption | exact mset_s | exact Rep.raw (by assumption) (by assumption) | (refine (mset_n (by first | assumption | exact Ne.symm (by assumption) | exact ne_fr (by assumption) (by assumption) | exact Ne.symm (ne_fr (by assumption) (by assumption)))).trans ?_; first | assumption | exact mset_s | exact Rep.raw (by assumption) (by assumption) | (refine (mset_n (by first | assumption | exact Ne.symm (by assumption) | exact ne_fr (by assumption) (by assumption) | exact Ne.symm (ne_fr (by assumption) (by assumption)))).trans ?_; first | assumption | exact mset_s | exact Rep.raw (by assumption) (by assumption) | (refine (mset_n (by first | assumption | exact Ne.symm (by assumption) | exact ne_fr (by assumption) (by assumption) | exact Ne.symm (ne_fr (by assumption) (by assumption)))).trans ?_; first | assumption | exact mset_s | exact Rep.raw (by assumption) (by assumption) | (refine (mset_n (by first | assumption | exact Ne.symm (by assumption) | exact ne_fr (by assumption) (by assumption) | exact Ne.symm (ne_fr (by assumption) (by assumption)))).trans ?_; first | assumption | exact mset_s | exact Rep.raw (by assumption) (by assumption) | (refine (mset_n (by first | assumption | exact Ne.symm (by assumption) | exact ne_fr (by assumption) (by assumption) | exact Ne.symm (ne_fr (by assumption) (by assumption)))).trans ?_; assumption)))))))) rfl ?_
      refine b_iload dX10_put_82 rfl ?_
      refine b_iload_n dX10_put_84 rfl ?_
      first | refine b_isubN dX10_put_85 (by omega) ?_ | refine b_isub dX10_put_85 ?_
      refine b_iald dX10_put_86 (by first | assumption | exact mset_s | exact Rep.raw (by assumption) (by assumption) | (refine (mset_n (by first | assumption | exact Ne.symm (by assumption) | exact ne_fr (by assumption) (by assumption) | exact Ne.symm (ne_fr (by assumption) (by assumption)))).trans ?_; first | assumption | exact mset_s | exact Rep.raw (by assumption) (by assumption) | (refine (mset_n (by first | assumption | exact Ne.symm (by assumption) | exact ne_fr (by assumption) (by assumption) | exact Ne.symm (ne_fr (by assumption) (by assumption)))).trans ?_; first | assumption | exact mset_s | exact Rep.raw (by assumption) (by assumption) | (refine (mset_n (by first | assumption | exact Ne.symm (by assumption) | exact ne_fr (by assumption) (by assumption) | exact Ne.symm (ne_fr (by assumption) (by assumption)))).trans ?_; first | assumption | exact mset_s | exact Rep.raw (by assumption) (by assumption) | (refine (mset_n (by first | assumption | exact Ne.symm (by assumption) | exact ne_fr (by assumption) (by assumption) | exact Ne.symm (ne_fr (by assumption) (by assumption)))).trans ?_; first | assumption | exact mset_s | exact Rep.raw (by assumption) (by assumption) | (refine (mset_n (by first | assumption | exact Ne.symm (by assumption) | exact ne_fr (by assumption) (by assumption) | exact Ne.symm (ne_fr (by assumption) (by assumption)))).trans ?_; first | assumption | exact mset_s | exact Rep.raw (by assumption) (by assumption) | (refine (mset_n (by first | assumption | exact Ne.symm (by assumption) | exact ne_fr (by assumption) (by assumption) | exact Ne.symm (ne_fr (by assumption) (by assumption)))).trans ?_; first | assumption | exact mset_s | exact Rep.raw (by assumption) (by assumption) | (refine (mset_n (by first | assumption | exact Ne.symm (by assumption) | exact ne_fr (by assumption) (by assumption) | exact Ne.symm (ne_fr (by assumption) (by assumption)))).trans ?_; assumption)))))))) (by first | assumption | exact ix_D (by first | assumption | omega) (by first | assumption | omega)) ?_
      refine b_iast dX10_put_87 (by first | assumption | exact mset_s | exact Rep.raw (by assumption) (by assumption) | (refine (mset_n (by first | assumption | exact Ne.symm (by assumption) | exact ne_fr (by assumption) (by assumption) | exact Ne.symm (ne_fr (by assumption) (by assumption)))).trans ?_; first | assumption | exact mset_s | exact Rep.raw (by assumption) (by assumption) | (refine (mset_n (by first | assumption | exact Ne.symm (by assumption) | exact ne_fr (by assumption) (by assumption) | exact Ne.symm (ne_fr (by assumption) (by assumption)))).trans ?_; first | assumption | exact mset_s | exact Rep.raw (by assumption) (by assumption) | (refine (mset_n (by first | assumption | exact Ne.symm (by assumption) | exact ne_fr (by assumption) (by assumption) | exact Ne.symm (ne_fr (by assumption) (by assumption)))).trans ?_; first | assumption | exact mset_s | exact Rep.raw (by assumption) (by assumption) | (refine (mset_n (by first | assumption | exact Ne.symm (by assumption) | exact ne_fr (by assumption) (by assumption) | exact Ne.symm (ne_fr (by assumption) (by assumption)))).trans ?_; first | assumption | exact mset_s | exact Rep.raw (by assumption) (by assumption) | (refine (mset_n (by first | assumption | exact Ne.symm (by assumption) | exact ne_fr (by assumption) (by assumption) | exact Ne.symm (ne_fr (by assumption) (by assumption)))).trans ?_; first | assumption | exact mset_s | exact Rep.raw (by assumption) (by assumption) | (refine (mset_n (by first | assumption | exact Ne.symm (by assumption) | exact ne_fr (by assumption) (by assumption) | exact Ne.symm (ne_fr (by assumption) (by assumption)))).trans ?_; first | assumption | exact mset_s | exact Rep.raw (by assumption) (by assumption) | (refine (mset_n (by first | assumption | exact Ne.symm (by assumption) | exact ne_fr (by assumption) (by assumption) | exact Ne.symm (ne_fr (by assumption) (by assumption)))).trans ?_; assumption)))))))) (by first | assumption | exact ixs_n (by first | assumption | omega) (by first | assumption | omega)) ?_
      refine b_iincM dX10_put_88 rfl (by decide) ?_
      refine b_goto (tgt := 48) dX10_put_91 (by decide) ?_
      refine bB.locs rfl (ih _ _ _ (by omega) (by omega) (h3.step (by omega) hx (by omega)) (h4.step (by omega) hw (by omega)) ((mset_n n3).trans mset_s) mset_s (fun q q1 q2 => ?_))
      rw [mset_n q2, mset_n q1]
      exact mo q q1 q2
theorem lp_put3 {μ : Mem} {x y x2 y2 m z : Nat} {o s : List (Option Nat)} {ko ks2 : List Int32} {Q : Outcome → Mem → Nat → Nat → Prop} (hlo : o.length ≤ capM) (hko : ko.length = o.length) (hm : i + m ≤ o.length) (hls : m ≤ s.length) (hls2 : m ≤ ks2.length) (hcs : s.length ≤ capM) (hcs2 : ks2.length ≤ capM) (n1 : a ≠ x) (n2 : a ≠ y) (n3 : x ≠ y) (u1 : b ≠ x) (u2 : b ≠ y) (u3 : x2 ≠ x) (u4 : x2 ≠ y) (u5 : y2 ≠ x) (u6 : y2 ≠ y) (hpg : ∀ j, j < m → ∃ v ci fs, s[j]? = some (some v) ∧ okR 5 ci ∧ μ v = some (cO ci fs)) {mm : Nat} (m1 : μ a = some (cO 10 [.ref x, .ref y, .int (nI mm)])) (m20 : μ x = some (cR 5 o)) (m30 : μ y = some (cI ko)) (b1 : μ b = some (cO 10 [.ref x2, .ref y2, .int (nI m)])) (b2 : μ x2 = some (cR 5 s)) (b3 : μ y2 = some (cI ks2))
    (hend : ∀ (μc : Mem) (xs : List (Option Nat)) (ks : List Int32), cpI o xs s i m → cpI ko ks ks2 i m → μc x = some (cR 5 xs) → μc y = some (cI ks) → (∀ q, q ≠ x → q ≠ y → μc q = μ q) → bB g l M10_put d Q 144 [] [] μc k n) :
    ∀ (f j : Nat) (μc : Mem) (xs : List (Option Nat)) (ks : List Int32), m - j < f → j ≤ m → cpI o xs s i j → cpI ko ks ks2 i j → μc x = some (cR 5 xs) → μc y = some (cI ks) → (∀ q, q ≠ x → q ≠ y → μc q = μ q) →
      bB g l M10_put d Q 97 [(0, .ref a), (1, .int (nI i)), (2, .ref b), (3, .int (nI z)), (4, .int (nI j))] [] μc k n := by
  have hcap : o.length ≤ 1000000 := hlo
  have hcap2 : s.length ≤ 1000000 := hcs
  have hcap3 : ks2.length ≤ 1000000 := hcs2
  intro f
  induction f with
  | zero => intro j μc xs ks h; omega
  | succ f ih =>
    intro j μc xs ks hf hj h3 h4 m2 m3 mo
    have c1 := (mo a n1 n2).trans m1
    have d1 := (mo b u1 u2).trans b1
    have d2 := (mo x2 u3 u4).trans b2
    have d3 := (mo y2 u5 u6).trans b3
    have hlx := h3.1
    have hly := h4.1
    refine b_iload dX10_put_97 rfl ?_
    first | refine b_aload_n dX10_put_99 rfl ?_ | refine b_aload_nN dX10_put_99 rfl ?_
    refine b_getf dX10_put_100 f10_19 (by first | assumption | exact mset_s | exact Rep.raw (by assumption) (by assumption) | (refine (mset_n (by first | assumption | exact Ne.symm (by assumption) | exact ne_fr (by assumption) (by assumption) | exact Ne.symm (ne_fr (by assumption) (by assumption)))).trans ?_; first | assumption | exact mset_s | exact Rep.raw (by assumption) (by assumption) | (refine (mset_n (by first | assumption | exact Ne.symm (by assumption) | exact ne_fr (by assumption) (by assumption) | exact Ne.symm (ne_fr (by assumption) (by assumption)))).trans ?_; first | assumption | exact mset_s | exact Rep.raw (by assumption) (by assumption) | (refine (mset_n (by first | assumption | exact Ne.symm (by assumption) | exact ne_fr (by assumption) (by assumption) | exact Ne.symm (ne_fr (by assumption) (by assumption)))).trans ?_; first | assumption | exact mset_s | exact Rep.raw (by assumption) (by assumption) | (refine (mset_n (by first | assumption | exact Ne.symm (by assumption) | exact ne_fr (by assumption) (by assumption) | exact Ne.symm (ne_fr (by assumption) (by assumption)))).trans ?_; first | assumption | exact mset_s | exact Rep.raw (by assumption) (by assumption) | (refine (mset_n (by first | assumption | exact Ne.symm (by assumption) | exact ne_fr (by assumption) (by assumption) | exact Ne.symm (ne_fr (by assumption) (by assumption)))).trans ?_; first | assumption | exact mset_s | exact Rep.raw (by assumption) (by assumption) | (refine (mset_n (by first | assumption | exact Ne.symm (by assumption) | exact ne_fr (by assumption) (by assumption) | exact Ne.symm (ne_fr (by assumption) (by assumption)))).trans ?_; first | assumption | exact mset_s | exact Rep.raw (by assumption) (by assumption) | (refine (mset_n (by first | assumption | exact Ne.symm (by assumption) | exact ne_fr (by assumption) (by assumption) | exact Ne.symm (ne_fr (by assumption) (by assumption)))).trans ?_; assumption)))))))) rfl ?_
    refine b_icmp_ge (tgt := 144) dX10_put_103 (by decide) (fun h103 => ?_) (fun h103 => ?_)
    · rw [nI_leI (by omega) (by omega)] at h103
      have e : j = m := by omega
      subst e
      exact bB.locs rfl (hend μc xs ks h3 h4 m2 m3 mo)
    · rw [nI_leI (by omega) (by omega)] at h103
      obtain ⟨v, ci, fs, hv, hok, hvv⟩ := hpg j (by omega)
      obtain ⟨w, hw⟩ := at_of (l := ks2) (j := j) (by omega)
      have hix : ix s (nI j) = some (some v) := by rw [ix_n (by omega)]; exact hv
      have hiy : ix ks2 (nI j) = some w := by rw [ix_n (by omega)]; exact hw
      have nx : v ≠ x := ne_cc hvv m20 (by intro h; cases h)
      have ny : v ≠ y := ne_cc hvv m30 (by intro h; cases h)
      have cv : μc v = some (cO ci fs) := (mo v nx ny).trans hvv
      first | refine b_aload_n dX10_put_106 rfl ?_ | refine b_aload_nN dX10_put_106 rfl ?_
      refine b_getf dX10_put_107 f10_9 (by first | assumption | exact mset_s | exact Rep.raw (by assumption) (by assumption) | (refine (mset_n (by first | assumption | exact Ne.symm (by assumption) | exact ne_fr (by assumption) (by assumption) | exact Ne.symm (ne_fr (by assumption) (by assumption)))).trans ?_; first | assumption | exact mset_s | exact Rep.raw (by assumption) (by assumption) | (refine (mset_n (by first | assumption | exact Ne.symm (by assumption) | exact ne_fr (by assumption) (by assumption) | exact Ne.symm (ne_fr (by assumption) (by assumption)))).trans ?_; first | assumption | exact mset_s | exact Rep.raw (by assumption) (by assumption) | (refine (mset_n (by first | assumption | exact Ne.symm (by assumption) | exact ne_fr (by assumption) (by assumption) | exact Ne.symm (ne_fr (by assumption) (by assumption)))).trans ?_; first | assumption | exact mset_s | exact Rep.raw (by assumption) (by assumption) | (refine (mset_n (by first | assumption | exact Ne.symm (by assumption) | exact ne_fr (by assumption) (by assumption) | exact Ne.symm (ne_fr (by assumption) (by assumption)))).trans ?_; first | assumption | exact mset_s | exact Rep.raw (by assumption) (by assumption) | (refine (mset_n (by first | assumption | exact Ne.symm (by assumption) | exact ne_fr (by assumption) (by assumption) | exact Ne.symm (ne_fr (by assumption) (by assumption)))).trans ?_; first | assumption | exact mset_s | exact Rep.raw (by assumption) (by assumption) | (refine (mset_n (by first | assumption | exact Ne.symm (by assumption) | exact ne_fr (by assumption) (by assumption) | exact Ne.symm (ne_fr (by assumption) (by assumption)))).trans ?_; first | assumption | exact mset_s | exact Rep.raw (by assumption) (by assumption) | (refine (mset_n (by first | assumption | exact Ne.symm (by assumption) | exact ne_fr (by assumption) (by assumption) | exact Ne.symm (ne_fr (by assumption) (by assumption)))).trans ?_; assumption)))))))) rfl ?_
      refine b_iload_n dX10_put_110 rfl ?_
      refine b_iload dX10_put_111 rfl ?_
      first | refine b_iaddN dX10_put_113 ?_ | refine b_iadd dX10_put_113 ?_
      first | refine b_aload_n dX10_put_114 rfl ?_ | refine b_aload_nN dX10_put_114 rfl ?_
      refine b_getf dX10_put_115 f10_9 (by first | assumption | exact mset_s | exact Rep.raw (by assumption) (by assumption) | (refine (mset_n (by first | assumption | exact Ne.symm (by assumption) | exact ne_fr (by assumption) (by assumption) | exact Ne.symm (ne_fr (by assumption) (by assumption)))).trans ?_; first | assumption | exact mset_s | exact Rep.raw (by assumption) (by assumption) | (refine (mset_n (by first | assumption | exact Ne.symm (by assumption) | exact ne_fr (by assumption) (by assumption) | exact Ne.symm (ne_fr (by assumption) (by assumption)))).trans ?_; first | assumption | exact mset_s | exact Rep.raw (by assumption) (by assumption) | (refine (mset_n (by first | assumption | exact Ne.symm (by assumption) | exact ne_fr (by assumption) (by assumption) | exact Ne.symm (ne_fr (by assumption) (by assumption)))).trans ?_; first | assumption | exact mset_s | exact Rep.raw (by assumption) (by assumption) | (refine (mset_n (by first | assumption | exact Ne.symm (by assumption) | exact ne_fr (by assumption) (by assumption) | exact Ne.symm (ne_fr (by assumption) (by assumption)))).trans ?_; first | assumption | exact mset_s | exact Rep.raw (by assumption) (by assumption) | (refine (mset_n (by first | assumption | exact Ne.symm (by assumption) | exact ne_fr (by assumption) (by assumption) | exact Ne.symm (ne_fr (by assumption) (by assumption)))).trans ?_; first | assumption | exact mset_s | exact Rep.raw (by assumption) (by assumption) | (refine (mset_n (by first | assumption | exact Ne.symm (by assumption) | exact ne_fr (by assumption) (by assumption) | exact Ne.symm (ne_fr (by assumption) (by assumption)))).trans ?_; first | assumption | exact mset_s | exact Rep.raw (by assumption) (by assumption) | (refine (mset_n (by first | assumption | exact Ne.symm (by assumption) | exact ne_fr (by assumption) (by assumption) | exact Ne.symm (ne_fr (by assumption) (by assumption)))).trans ?_; assumption)))))))) rfl ?_
      refine b_iload dX10_put_118 rfl ?_
      refine b_aald dX10_put_120 (by first | assumption | exact mset_s | exact Rep.raw (by assumption) (by assumption) | (refine (mset_n (by first | assumption | exact Ne.symm (by assumption) | exact ne_fr (by assumption) (by assumption) | exact Ne.symm (ne_fr (by assumption) (by assumption)))).trans ?_; first | assumption | exact mset_s | exact Rep.raw (by assumption) (by assumption) | (refine (mset_n (by first | assumption | exact Ne.symm (by assumption) | exact ne_fr (by assumption) (by assumption) | exact Ne.symm (ne_fr (by assumption) (by assumption)))).trans ?_; first | assumption | exact mset_s | exact Rep.raw (by assumption) (by assumption) | (refine (mset_n (by first | assumption | exact Ne.symm (by assumption) | exact ne_fr (by assumption) (by assumption) | exact Ne.symm (ne_fr (by assumption) (by assumption)))).trans ?_; first | assumption | exact mset_s | exact Rep.raw (by assumption) (by assumption) | (refine (mset_n (by first | assumption | exact Ne.symm (by assumption) | exact ne_fr (by assumption) (by assumption) | exact Ne.symm (ne_fr (by assumption) (by assumption)))).trans ?_; first | assumption | exact mset_s | exact Rep.raw (by assumption) (by assumption) | (refine (mset_n (by first | assumption | exact Ne.symm (by assumption) | exact ne_fr (by assumption) (by assumption) | exact Ne.symm (ne_fr (by assumption) (by assumption)))).trans ?_; first | assumption | exact mset_s | exact Rep.raw (by assumption) (by assumption) | (refine (mset_n (by first | assumption | exact Ne.symm (by assumption) | exact ne_fr (by assumption) (by assumption) | exact Ne.symm (ne_fr (by assumption) (by assumption)))).trans ?_; first | assumption | exact mset_s | exact Rep.raw (by assumption) (by assumption) | (refine (mset_n (by first | assumption | exact Ne.symm (by assumption) | exact ne_fr (by assumption) (by assumption) | exact Ne.symm (ne_fr (by assumption) (by assumption)))).trans ?_; assumption)))))))) (by decide) (by first | assumption | exact ix_D (by first | assumption | omega) (by first | assumption | omega)) ?_
      refine b_aast dX10_put_121 m2 (by decide) cv hok (ixs_n (by omega) (by omega)) ?_
      first | refine b_aload_n dX10_put_122 rfl ?_ | refine b_aload_nN dX10_put_122 rfl ?_
      refine b_getf dX10_put_123 f10_15 (by first | assumption | exact mset_s | exact Rep.raw (by assumption) (by assumption) | (refine (mset_n (by first | assumption | exact Ne.symm (by assumption) | exact ne_fr (by assumption) (by assumption) | exact Ne.symm (ne_fr (by assumption) (by assumption)))).trans ?_; first | assumption | exact mset_s | exact Rep.raw (by assumption) (by assumption) | (refine (mset_n (by first | assumption | exact Ne.symm (by assumption) | exact ne_fr (by assumption) (by assumption) | exact Ne.symm (ne_fr (by assumption) (by assumption)))).trans ?_; first | assumption | exact mset_s | exact Rep.raw (by assumption) (by assumption) | (refine (mset_n (by first | assumption | exact Ne.symm (by assumption) | exact ne_fr (by assumption) (by assumption) | exact Ne.symm (ne_fr (by assumption) (by assumption)))).trans ?_; first | assumption | exact mset_s | exact Rep.raw (by assumption) (by assumption) | (refine (mset_n (by first | assumption | exact Ne.symm (by assumption) | exact ne_fr (by assumption) (by assumption) | exact Ne.symm (ne_fr (by assumption) (by assumption)))).trans ?_; first | assumption | exact mset_s | exact Rep.raw (by assumption) (by assumption) | (refine (mset_n (by first | assumption | exact Ne.symm (by assumption) | exact ne_fr (by assumption) (by assumption) | exact Ne.symm (ne_fr (by assumption) (by assumption)))).trans ?_; first | assumption | exact mset_s | exact Rep.raw (by assumption) (by assumption) | (refine (mset_n (by first | assumption | exact Ne.symm (by assumption) | exact ne_fr (by assumption) (by assumption) | exact Ne.symm (ne_fr (by assumption) (by assumption)))).trans ?_; first | assumption | exact mset_s | exact Rep.raw (by assumption) (by assumption) | (refine (mset_n (by first | assumption | exact Ne.symm (by assumption) | exact ne_fr (by assumption) (by assumption) | exact Ne.symm (ne_fr (by assumption) (by assumption)))).trans ?_; assumption)))))))) rfl ?_
      refine b_iload_n dX10_put_126 rfl ?_
      refine b_iload dX10_put_127 rfl ?_
      first | refine b_iaddN dX10_put_129 ?_ | refine b_iadd dX10_put_129 ?_
      first | refine b_aload_n dX10_put_130 rfl ?_ | refine b_aload_nN dX10_put_130 rfl ?_
      refine b_getf dX10_put_131 f10_15 (by first | assumption | exact mset_s | exact Rep.raw (by assumption) (by assumption) | (refine (mset_n (by first | assumption | exact Ne.symm (by assumption) | exact ne_fr (by assumption) (by assumption) | exact Ne.symm (ne_fr (by assumption) (by assumption)))).trans ?_; first | assumption | exact mset_s | exact Rep.raw (by assumption) (by assumption) | (refine (mset_n (by first | assumption | exact Ne.symm (by assumption) | exact ne_fr (by assumption) (by assumption) | exact Ne.symm (ne_fr (by assumption) (by assumption)))).trans ?_; first | assumption | exact mset_s | exact Rep.raw (by assumption) (by assumption) | (refine (mset_n (by first | assumption | exact Ne.symm (by assumption) | exact ne_fr (by assumption) (by assumption) | exact Ne.symm (ne_fr (by assumption) (by assumption)))).trans ?_; first | assumption | exact mset_s | exact Rep.raw (by assumption) (by assumption) | (refine (mset_n (by first | assumption | exact Ne.symm (by assumption) | exact ne_fr (by assumption) (by assumption) | exact Ne.symm (ne_fr (by assumption) (by assumption)))).trans ?_; first | assumption | exact mset_s | exact Rep.raw (by assumption) (by assumption) | (refine (mset_n (by first | assumption | exact Ne.symm (by assumption) | exact ne_fr (by assumption) (by assumption) | exact Ne.symm (ne_fr (by assumption) (by assumption)))).trans ?_; first | assumption | exact mset_s | exact Rep.raw (by assumption) (by assumption) | (refine (mset_n (by first | assumption | exact Ne.symm (by assumption) | exact ne_fr (by assumption) (by assumption) | exact Ne.symm (ne_fr (by assumption) (by assumption)))).trans ?_; first | assumption | exact mset_s | exact Rep.raw (by assumption) (by assumption) | (refine (mset_n (by first | assumption | exact Ne.symm (by assumption) | exact ne_fr (by assumption) (by assumption) | exact Ne.symm (ne_fr (by assumption) (by assumption)))).trans ?_; assumption)))))))) rfl ?_
      refine b_iload dX10_put_134 rfl ?_
      refine b_iald dX10_put_136 (by first | assumption | exact mset_s | exact Rep.raw (by assumption) (by assumption) | (refine (mset_n (by first | assumption | exact Ne.symm (by assumption) | exact ne_fr (by assumption) (by assumption) | exact Ne.symm (ne_fr (by assumption) (by assumption)))).trans ?_; first | assumption | exact mset_s | exact Rep.raw (by assumption) (by assumption) | (refine (mset_n (by first | assumption | exact Ne.symm (by assumption) | exact ne_fr (by assumption) (by assumption) | exact Ne.symm (ne_fr (by assumption) (by assumption)))).trans ?_; first | assumption | exact mset_s | exact Rep.raw (by assumption) (by assumption) | (refine (mset_n (by first | assumption | exact Ne.symm (by assumption) | exact ne_fr (by assumption) (by assumption) | exact Ne.symm (ne_fr (by assumption) (by assumption)))).trans ?_; first | assumption | exact mset_s | exact Rep.raw (by assumption) (by assumption) | (refine (mset_n (by first | assumption | exact Ne.symm (by assumption) | exact ne_fr (by assumption) (by assumption) | exact Ne.symm (ne_fr (by assumption) (by assumption)))).trans ?_; first | assumption | exact mset_s | exact Rep.raw (by assumption) (by assumption) | (refine (mset_n (by first | assumption | exact Ne.symm (by assumption) | exact ne_fr (by assumption) (by assumption) | exact Ne.symm (ne_fr (by assumption) (by assumption)))).trans ?_; first | assumption | exact mset_s | exact Rep.raw (by assumption) (by assumption) | (refine (mset_n (by first | assumption | exact Ne.symm (by assumption) | exact ne_fr (by assumption) (by assumption) | exact Ne.symm (ne_fr (by assumption) (by assumption)))).trans ?_; first | assumption | exact mset_s | exact Rep.raw (by assumption) (by assumption) | (refine (mset_n (by first | assumption | exact Ne.symm (by assumption) | exact ne_fr (by assumption) (by assumption) | exact Ne.symm (ne_fr (by assumption) (by assumption)))).trans ?_; assumption)))))))) (by first | assumption | exact ix_D (by first | assumption | omega) (by first | assumption | omega)) ?_
      refine b_iast dX10_put_137 (by first | assumption | exact mset_s | exact Rep.raw (by assumption) (by assumption) | (refine (mset_n (by first | assumption | exact Ne.symm (by assumption) | exact ne_fr (by assumption) (by assumption) | exact Ne.symm (ne_fr (by assumption) (by assumption)))).trans ?_; first | assumption | exact mset_s | exact Rep.raw (by assumption) (by assumption) | (refine (mset_n (by first | assumption | exact Ne.symm (by assumption) | exact ne_fr (by assumption) (by assumption) | exact Ne.symm (ne_fr (by assumption) (by assumption)))).trans ?_; first | assumption | exact mset_s | exact Rep.raw (by assumption) (by assumption) | (refine (mset_n (by first | assumption | exact Ne.symm (by assumption) | exact ne_fr (by assumption) (by assumption) | exact Ne.symm (ne_fr (by assumption) (by assumption)))).trans ?_; first | assumption | exact mset_s | exact Rep.raw (by assumption) (by assumption) | (refine (mset_n (by first | assumption | exact Ne.symm (by assumption) | exact ne_fr (by assumption) (by assumption) | exact Ne.symm (ne_fr (by assumption) (by assumption)))).trans ?_; first | assumption | exact mset_s | exact Rep.raw (by assumption) (by assumption) | (refine (mset_n (by first | assumption | exact Ne.symm (by assumption) | exact ne_fr (by assumption) (by assumption) | exact Ne.symm (ne_fr (by assumption) (by assumption)))).trans ?_; first | assumption | exact mset_s | exact Rep.raw (by assumption) (by assumption) | (refine (mset_n (by first | assumption | exact Ne.symm (by assumption) | exact ne_fr (by assumption) (by assumption) | exact Ne.symm (ne_fr (by assumption) (by assumption)))).trans ?_; first | assumption | exact mset_s | exact Rep.raw (by assumption) (by assumption) | (refine (mset_n (by first | assumption | exact Ne.symm (by assumption) | exact ne_fr (by assumption) (by assumption) | exact Ne.symm (ne_fr (by assumption) (by assumption)))).trans ?_; assumption)))))))) (by first | assumption | exact ixs_n (by first | assumption | omega) (by first | assumption | omega)) ?_
      first | refine b_iincN dX10_put_138 rfl (by decide) ?_ | refine b_iinc1 dX10_put_138 rfl (by decide) ?_
      refine b_goto (tgt := 97) dX10_put_141 (by decide) ?_
      refine bB.locs rfl (ih (j + 1) _ _ _ (by omega) (by omega) (h3.step hv (by omega)) (h4.step hw (by omega)) ((mset_n n3).trans mset_s) mset_s (fun q q1 q2 => ?_))
      rw [mset_n q2, mset_n q1]
      exact mo q q1 q2
theorem sp_put (ha : α a = some (oP ps c)) (hab : a ≠ b) (hb : α b = some (oP ss c2)) (hps : allG α ps) (hss : allG α ss) (hs : 1 ≤ ss.length) (hi : i < ps.length) (hN : ps.length + ss.length ≤ 40000) (h4 : 4 ≤ c) (hc : c ≤ 100000) (hk : 2 * (ps.length + (ss.length - 1)) ≤ 2 * k + c) (hn : 8 * (ps.length + (ss.length - 1)) ≤ n + 4 * c) (hd : 1 ≤ d) :
    aMs g l d k n M10_put [.ref a, .int (nI i), .ref b] α (fun o α' k' n' => o = .returned none ∧ ∃ c', α' = aset α a (oP (putL ps i ss) c') ∧ gP c k n c' k' n' (ps.length + (ss.length - 1))) := by
  intro μ hR
  refine Ms.of rfl rfl (Nat.le_of_ble_eq_true rfl) ?_
  refine b_iconst (v := 1) dX10_put_0 (by decide) ?_
  refine b_istore_n dX10_put_1 (by decide) ?_
  refine bB.locs rfl (lp_put1 ha hab hb hps hss hs ?_ hN (ss.length + 1) 1 c μ k n (by omega) (by omega) hs (by rw [List.drop_eq_nil_of_le (by simp; omega), List.append_nil, aset_id ha]; exact hR) h4 hc gP.rf hk hn hd)
  intro μ1 c1 k1 n1 hR1 hg h41
  have hg' := hg
  unfold gP at hg'
  obtain ⟨w, hw⟩ := hR1
  have ha1 : aset α a (oP (ps ++ ss.drop 1) c1) a = some (oP (ps ++ ss.drop 1) c1) := aset_s
  have hb1 : aset α a (oP (ps ++ ss.drop 1) c1) b = some (oP ss c2) := (aset_n hab.symm).trans hb
  have hR1 : Rep (aset α a (oP (ps ++ ss.drop 1) c1)) μ1 := ⟨w, hw⟩
  obtain ⟨o, ko, m1, m2, m3, e1, e2, hle, hcap, ht, hu⟩ := hw.1 a _ ha1
  obtain ⟨s, ks2, b1, b2, b3, f1, f2, hle2, hcap2, ht2, hu2⟩ := hw.1 b _ hb1
  have hlen : (ps ++ ss.drop 1).length = ps.length + (ss.length - 1) := by simp
  have sepA : ∀ z ∈ [(w a).1, (w a).2], ∀ z' ∈ [(w b).1, (w b).2], z' ≠ z := by
    intro z hz z' hz' e
    subst e
    exact hab (hw.2.2 a b _ _ z' ha1 hb1 hz hz')
  generalize hX : (w a).1 = x at *
  generalize hY : (w a).2 = y at *
  generalize hX2 : (w b).1 = x2 at *
  generalize hY2 : (w b).2 = y2 at *
  have hcap' : c1 ≤ 1000000 := hcap
  have hcap2' : c2 ≤ 1000000 := hcap2
  have n1 : a ≠ x := ne_cc m1 m2 (by intro h; cases h)
  have n2 : a ≠ y := ne_cc m1 m3 (by intro h; cases h)
  have n3 : x ≠ y := ne_cc m2 m3 (by intro h; cases h)
  have u1 : b ≠ x := ne_cc b1 m2 (by intro h; cases h)
  have u2 : b ≠ y := ne_cc b1 m3 (by intro h; cases h)
  have u3 : x2 ≠ x := sepA x (by simp) x2 (by simp)
  have u4 : x2 ≠ y := sepA y (by simp) x2 (by simp)
  have u5 : y2 ≠ x := sepA x (by simp) y2 (by simp)
  have u6 : y2 ≠ y := sepA y (by simp) y2 (by simp)
  have pgs : ∀ q ∈ ps ++ ss.drop 1, ∃ ci fs, okR 5 ci ∧ μ1 q.1 = some (cO ci fs) := by
    intro q hq
    have : isPg α q.1 := by
      rcases List.mem_append.mp hq with h | h
      · exact hps q h
      · exact hss q (List.mem_of_mem_drop h)
    refine isPg.at hR1 ?_
    rcases this with ⟨fs, h⟩ | ⟨fs, h⟩
    · exact Or.inl ⟨fs, raw_set ha oP_ne h⟩
    · exact Or.inr ⟨fs, raw_set ha oP_ne h⟩
  have pgs2 : ∀ q ∈ ss, ∃ ci fs, okR 5 ci ∧ μ1 q.1 = some (cO ci fs) := by
    intro q hq
    refine isPg.at hR1 ?_
    rcases hss q hq with ⟨fs, h⟩ | ⟨fs, h⟩
    · exact Or.inl ⟨fs, raw_set ha oP_ne h⟩
    · exact Or.inr ⟨fs, raw_set ha oP_ne h⟩
  rw [hlen] at m1 hle ht hu
  first | refine b_aload_n dX10_put_33 rfl ?_ | refine b_aload_nN dX10_put_33 rfl ?_
  refine b_getf dX10_put_34 f10_19 (by first | assumption | exact mset_s | exact Rep.raw (by assumption) (by assumption) | (refine (mset_n (by first | assumption | exact Ne.symm (by assumption) | exact ne_fr (by assumption) (by assumption) | exact Ne.symm (ne_fr (by assumption) (by assumption)))).trans ?_; first | assumption | exact mset_s | exact Rep.raw (by assumption) (by assumption) | (refine (mset_n (by first | assumption | exact Ne.symm (by assumption) | exact ne_fr (by assumption) (by assumption) | exact Ne.symm (ne_fr (by assumption) (by assumption)))).trans ?_; first | assumption | exact mset_s | exact Rep.raw (by assumption) (by assumption) | (refine (mset_n (by first | assumption | exact Ne.symm (by assumption) | exact ne_fr (by assumption) (by assumption) | exact Ne.symm (ne_fr (by assumption) (by assumption)))).trans ?_; first | assumption | exact mset_s | exact Rep.raw (by assumption) (by assumption) | (refine (mset_n (by first | assumption | exact Ne.symm (by assumption) | exact ne_fr (by assumption) (by assumption) | exact Ne.symm (ne_fr (by assumption) (by assumption)))).trans ?_; first | assumption | exact mset_s | exact Rep.raw (by assumption) (by assumption) | (refine (mset_n (by first | assumption | exact Ne.symm (by assumption) | exact ne_fr (by assumption) (by assumption) | exact Ne.symm (ne_fr (by assumption) (by assumption)))).trans ?_; first | assumption | exact mset_s | exact Rep.raw (by assumption) (by assumption) | (refine (mset_n (by first | assumption | exact Ne.symm (by assumption) | exact ne_fr (by assumption) (by assumption) | exact Ne.symm (ne_fr (by assumption) (by assumption)))).trans ?_; first | assumption | exact mset_s | exact Rep.raw (by assumption) (by assumption) | (refine (mset_n (by first | assumption | exact Ne.symm (by assumption) | exact ne_fr (by assumption) (by assumption) | exact Ne.symm (ne_fr (by assumption) (by assumption)))).trans ?_; assumption)))))))) rfl ?_
  refine b_iconst (v := 1) dX10_put_37 (by decide) ?_
  first | refine b_isubK (c := 1) dX10_put_38 (by decide) (by omega) ?_ | refine b_isub dX10_put_38 ?_
  refine b_istore_n dX10_put_39 (by decide) ?_
  first | refine b_aload_n dX10_put_40 rfl ?_ | refine b_aload_nN dX10_put_40 rfl ?_
  refine b_getf dX10_put_41 f10_19 (by first | assumption | exact mset_s | exact Rep.raw (by assumption) (by assumption) | (refine (mset_n (by first | assumption | exact Ne.symm (by assumption) | exact ne_fr (by assumption) (by assumption) | exact Ne.symm (ne_fr (by assumption) (by assumption)))).trans ?_; first | assumption | exact mset_s | exact Rep.raw (by assumption) (by assumption) | (refine (mset_n (by first | assumption | exact Ne.symm (by assumption) | exact ne_fr (by assumption) (by assumption) | exact Ne.symm (ne_fr (by assumption) (by assumption)))).trans ?_; first | assumption | exact mset_s | exact Rep.raw (by assumption) (by assumption) | (refine (mset_n (by first | assumption | exact Ne.symm (by assumption) | exact ne_fr (by assumption) (by assumption) | exact Ne.symm (ne_fr (by assumption) (by assumption)))).trans ?_; first | assumption | exact mset_s | exact Rep.raw (by assumption) (by assumption) | (refine (mset_n (by first | assumption | exact Ne.symm (by assumption) | exact ne_fr (by assumption) (by assumption) | exact Ne.symm (ne_fr (by assumption) (by assumption)))).trans ?_; first | assumption | exact mset_s | exact Rep.raw (by assumption) (by assumption) | (refine (mset_n (by first | assumption | exact Ne.symm (by assumption) | exact ne_fr (by assumption) (by assumption) | exact Ne.symm (ne_fr (by assumption) (by assumption)))).trans ?_; first | assumption | exact mset_s | exact Rep.raw (by assumption) (by assumption) | (refine (mset_n (by first | assumption | exact Ne.symm (by assumption) | exact ne_fr (by assumption) (by assumption) | exact Ne.symm (ne_fr (by assumption) (by assumption)))).trans ?_; first | assumption | exact mset_s | exact Rep.raw (by assumption) (by assumption) | (refine (mset_n (by first | assumption | exact Ne.symm (by assumption) | exact ne_fr (by assumption) (by assumption) | exact Ne.symm (ne_fr (by assumption) (by assumption)))).trans ?_; assumption)))))))) rfl ?_
  refine b_iconst (v := 1) dX10_put_44 (by decide) ?_
  first | refine b_isubK (c := 1) dX10_put_45 (by decide) (by omega) ?_ | refine b_isub dX10_put_45 ?_
  refine b_istore dX10_put_46 (by decide) ?_
  refine bB.locs rfl (lp_put2 (μ := μ1) (z := ss.length - 1) (m := ps.length + (ss.length - 1)) (o := o) (ko := ko) (by omega) (by omega) (by omega) n1 n2 n3 ?_ m1 m2 m3 ?_ (ps.length + (ss.length - 1) - 1) μ1 o ko (by omega) (by omega) (shB.start (by omega)) (shB.start (by omega)) m2 m3 (fun q _ _ => rfl))
  · intro j hj
    obtain ⟨q, hq⟩ := at_of (l := ps ++ ss.drop 1) (j := j) (by omega)
    obtain ⟨ci, fs, z1, z2⟩ := pgs q (List.mem_of_getElem? hq)
    exact ⟨q.1, ci, fs, get_of_take (l := ps ++ ss.drop 1) (f := fun q => some q.1) (by rw [hlen]; exact ht) hq, z1, z2⟩
  intro μ2 xs ks s1 s2 c2' c3' co
  refine b_iconst (v := 0) dX10_put_94 (by decide) ?_
  refine b_istore dX10_put_95 (by decide) ?_
  have g1 := (co a n1 n2).trans m1
  have g2 := (co b u1 u2).trans b1
  have g3 := (co x2 u3 u4).trans b2
  have g4 := (co y2 u5 u6).trans b3
  have hlx := s1.1
  have hly := s2.1
  refine bB.locs rfl (lp_put3 (μ := μ2) (z := ss.length - 1) (m := ss.length) (o := xs) (ko := ks) (s := s) (ks2 := ks2) (by omega) (by omega) (by omega) (by omega) (by omega) (by omega) (by omega) n1 n2 n3 u1 u2 u3 u4 u5 u6 ?_ g1 c2' c3' g2 g3 g4 ?_ (ss.length + 1) 0 μ2 xs ks (by omega) (by omega) cpI.start cpI.start c2' c3' (fun q _ _ => rfl))
  · intro j hj
    obtain ⟨q, hq⟩ := at_of (l := ss) (j := j) (by omega)
    obtain ⟨ci, fs, z1, z2⟩ := pgs2 q (List.mem_of_getElem? hq)
    have nx : q.1 ≠ x := ne_cc z2 m2 (by intro h; cases h)
    have ny : q.1 ≠ y := ne_cc z2 m3 (by intro h; cases h)
    exact ⟨q.1, ci, fs, get_of_take (l := ss) (f := fun q => some q.1) ht2 hq, z1, (co _ nx ny).trans z2⟩
  intro μ3 xs3 ks3 p1 p2 d2 d3 do3
  refine b_vret dX10_put_144 rfl ?_
  have hlx3 := p1.1
  have hly3 := p2.1
  have hpl := putL_len hi hs
  refine ⟨_, ⟨_, hw.upd (S := [x, y]) (w' := (x, y)) (Or.inl ⟨_, ha1, by simp [arrs, oP, hX, hY]⟩) (o' := oP (putL ps i ss) c1) ⟨xs3, ks3, ?_, d2, d3, by omega, by omega, by omega, hcap, ?_, ?_⟩ (fun q c9 h9 h10 h11 => ?_) (fun z hz => ?_)⟩, rfl, c1, by rw [aset2], hg⟩
  · rw [hpl]
    exact (do3 a n1 n2).trans g1
  · rw [hpl]
    exact put_fin hi hs ht (by omega) s1 ht2 p1
  · rw [hpl]
    exact put_fin hi hs hu (by omega) s2 hu2 p2
  · obtain ⟨z1, z2⟩ := cons2 h10
    rw [do3 q z1 z2, co q z1 z2]
    exact h11
  · have : z = x ∨ z = y := by simpa [arrs, oP] using hz
    rcases this with rfl | rfl
    · exact ⟨n1.symm, Or.inl (by simp)⟩
    · exact ⟨n2.symm, Or.inl (by simp)⟩
end PUT
