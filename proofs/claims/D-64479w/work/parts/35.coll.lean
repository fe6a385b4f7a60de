/-! Page.collect: helpers, leaves -/
set_option maxRecDepth 100000
section CL0
variable {α α' : AM} {w w' : WS} {kd j a c d0 : Nat}
/-- a row changes that isn't Work's from this depth on -/
theorem WK.chg {ra c0 c1 : Nat} {R R' : Prs} (hW : WK α w d0) (ha : α ra = some (oR R c0)) (ha' : α' ra = some (oR R' c1)) (hne : ¬ wFp w d0 ra) (hf : ∀ x o, x ≠ ra → α x = some o → α' x = some o) : WK α' w d0 := by
  obtain ⟨h1, h2, h3, h4, h5⟩ := hW
  have hraw : ∀ x cl, α x = some (oW cl) → x ≠ ra := fun x cl hx e => by
    subst e
    rw [ha] at hx
    cases hx
  refine ⟨hf _ _ (hraw _ _ h1) h1, fun kd hk => hf _ _ (hraw _ _ (h2 kd hk)) (h2 kd hk), fun kd j a c hk he => ⟨?_, fun hd => ?_⟩, h4, h5⟩
  · obtain ⟨c', q1⟩ := (h3 kd j a c hk he).1
    by_cases e : a = ra
    · subst e
      unfold isCont at q1 ⊢
      by_cases e0 : kd = 0
      · exact ⟨c1, by rw [if_pos e0]; exact ⟨R', ha'⟩⟩
      · rw [if_neg e0] at q1
        split at q1
        · obtain ⟨ps, hp⟩ := q1; rw [ha] at hp; cases hp
        · obtain ⟨ps, hp⟩ := q1; rw [ha] at hp; cases hp
    · exact ⟨c', q1.kept (fun o ho => hf _ _ e ho)⟩
  · obtain ⟨q1, q2⟩ := (h3 kd j a c hk he).2 hd
    exact ⟨q1.kept (fun o ho => hf _ _ (fun e => hne (Or.inr ⟨kd, j, c, hk, hd, e ▸ he⟩)) ho), q2⟩
/-- the record of a capacity above the depth -/
theorem WK.recap {c' : Nat} (hW : WK α w d0) (hk : kd < 4) (he : w.2.2 kd j = some (a, c)) (hj : j < d0) : WK α (wput w kd j (a, c')) d0 := by
  obtain ⟨q1, q2, q3, q4, q5⟩ := hW
  have key0 : ∀ kd3 j3 a3 c3, kd3 < 4 → (wput w kd j (a, c')).2.2 kd3 j3 = some (a3, c3) → (w.2.2 kd3 j3 = some (a3, c3)) ∨ (kd3 = kd ∧ j3 = j ∧ a3 = a) := by
    intro kd3 j3 a3 c3 hk3 h3
    by_cases e : kd3 = kd ∧ j3 = j
    · obtain ⟨rfl, rfl⟩ := e
      rw [wput_s] at h3
      cases h3
      exact Or.inr ⟨rfl, rfl, rfl⟩
    · rw [wput_n e] at h3
      exact Or.inl h3
  refine ⟨q1, fun kd' hk' => ?_, fun kd' j' a1 c1 hk' he' => ?_, fun kd1 j1 kd2 j2 a1 c1 c2 hk1 hk2 he1 he2 => ?_, q5⟩
  · have : wArr ((wput w kd j (a, c')).2.2 kd') = wArr (w.2.2 kd') := by
      unfold wArr
      refine List.map_congr_left (fun i _ => ?_)
      by_cases e : kd' = kd ∧ i = j
      · obtain ⟨rfl, rfl⟩ := e
        rw [wput_s, he]
        rfl
      · rw [wput_n e]
    rw [this]
    exact q2 kd' hk'
  · rcases key0 kd' j' a1 c1 hk' he' with h | ⟨rfl, rfl, rfl⟩
    · exact q3 kd' j' a1 c1 hk' h
    · exact ⟨(q3 kd' j' a1 c hk' he).1, fun hd => by omega⟩
  · have : ∀ kd3 j3 c3, kd3 < 4 → (wput w kd j (a, c')).2.2 kd3 j3 = some (a1, c3) → ∃ c4, w.2.2 kd3 j3 = some (a1, c4) := by
      intro kd3 j3 c3 hk3 h3
      rcases key0 kd3 j3 a1 c3 hk3 h3 with h | ⟨rfl, rfl, rfl⟩
      · exact ⟨_, h⟩
      · exact ⟨_, he⟩
    obtain ⟨c3, h3⟩ := this kd1 j1 c1 hk1 he1
    obtain ⟨c4, h4⟩ := this kd2 j2 c2 hk2 he2
    exact q4 kd1 j1 kd2 j2 a1 c3 c4 hk1 hk2 h3 h4
/-- Work is another only in some kinds from a depth on; new ones were not in memory -/
def wSm (α : AM) (w w' : WS) (ks : Nat → Prop) (d0 : Nat) : Prop := w'.1 = w.1 ∧ w'.2.1 = w.2.1 ∧ (∀ kd j, (¬ ks kd ∨ j < d0) → w'.2.2 kd j = w.2.2 kd j) ∧ (∀ kd j a c, w.2.2 kd j = some (a, c) → ∃ c', w'.2.2 kd j = some (a, c')) ∧ ∀ kd j a c, w'.2.2 kd j = some (a, c) → w.2.2 kd j = none → α a = none
theorem wSm.rf {ks : Nat → Prop} : wSm α w w ks d0 := ⟨rfl, rfl, fun _ _ _ => rfl, fun kd j a c h => ⟨c, h⟩, fun kd j a c h h' => by rw [h] at h'; cases h'⟩
theorem wSm.tr {ks : Nat → Prop} {w'' : WS} (h : wSm α w w' ks d0) (h' : wSm α' w' w'' ks d0) (he : ∀ x o, α x = some o → ∃ o', α' x = some o') : wSm α w w'' ks d0 := by
  obtain ⟨h1, h2, h3, h4, h5⟩ := h
  obtain ⟨g1, g2, g3, g4, g5⟩ := h'
  refine ⟨g1.trans h1, g2.trans h2, fun kd j q => (g3 kd j q).trans (h3 kd j q), fun kd j a c q => ?_, fun kd j a c q q0 => ?_⟩
  · obtain ⟨c', q'⟩ := h4 kd j a c q
    exact g4 kd j a c' q'
  · cases hy : w'.2.2 kd j with
    | none =>
      have hn := g5 kd j a c q hy
      cases hx : α a with
      | none => rfl
      | some o =>
        obtain ⟨o', ho'⟩ := he a o hx
        rw [hn] at ho'
        cases ho'
    | some e =>
      obtain ⟨a', c'⟩ := e
      obtain ⟨c2, q2⟩ := g4 kd j a' c' hy
      rw [q] at q2
      cases q2
      exact h5 kd j a c' hy q0
theorem wSm.deep {ks : Nat → Prop} {d1 : Nat} (h : wSm α w w' ks d1) (hd : d0 ≤ d1) : wSm α w w' ks d0 := ⟨h.1, h.2.1, fun kd j q => h.2.2.1 kd j (q.imp id (fun z => by omega)), h.2.2.2⟩
theorem wSm.fp {ks : Nat → Prop} {d1 x : Nat} (h : wSm α w w' ks d0) (hx : wFp w' d1 x) : wFp w d1 x ∨ α x = none := by
  rcases hx with ⟨kd, hk, e⟩ | ⟨kd, j, c, hk, hj, he⟩
  · rw [h.2.1] at e; exact Or.inl (Or.inl ⟨kd, hk, e⟩)
  · cases hy : w.2.2 kd j with
    | none => exact Or.inr (h.2.2.2.2 kd j x c he hy)
    | some q =>
      obtain ⟨a', c'⟩ := q
      obtain ⟨c2, q2⟩ := h.2.2.2.1 kd j a' c' hy
      rw [he] at q2
      cases q2
      exact Or.inl (Or.inr ⟨kd, j, c', hk, hj, hy⟩)
theorem gotW.sm {k n k' n' : Nat} {ks : Nat → Prop} (h : gotW α w d0 kd j k n a c α' k' n') (hk : ks kd) (hd : d0 ≤ j) : wSm α w (wput w kd j (a, c)) ks d0 := by
  obtain ⟨h1, h2, h3, h4, -⟩ := h
  refine ⟨rfl, rfl, fun kd' j' q => ?_, fun kd' j' a' c' q => ?_, fun kd' j' a' c' q q0 => ?_⟩
  · rw [wput_n]
    rintro ⟨rfl, rfl⟩
    rcases q with q | q
    · exact q hk
    · omega
  · by_cases e : kd' = kd ∧ j' = j
    · obtain ⟨rfl, rfl⟩ := e
      rcases h4 with h4 | h4
      · rw [h4] at q
        cases q
        exact ⟨c, wput_s⟩
      · rw [h4.1] at q; cases q
    · exact ⟨c', by rw [wput_n e]; exact q⟩
  · by_cases e : kd' = kd ∧ j' = j
    · obtain ⟨rfl, rfl⟩ := e
      rw [wput_s] at q
      cases q
      rcases h4 with h4 | h4
      · rw [h4] at q0; cases q0
      · exact h4.2
    · rw [wput_n e] at q
      rw [q] at q0; cases q0
theorem gotW.in {k n k' n' : Nat} (h : gotW α w d0 kd j k n a c α' k' n') (hk : kd < 4) (hd : d0 ≤ j) : wFp w d0 a ∨ α a = none := by
  rcases h.2.2.2.1 with h4 | h4
  · exact Or.inl (Or.inr ⟨kd, j, c, hk, hd, h4⟩)
  · exact Or.inr h4.2
theorem gotW.dom {k n k' n' : Nat} (h : gotW α w d0 kd j k n a c α' k' n') (hk : kd < 4) : ∀ x o, α x = some o → ∃ o', α' x = some o' := by
  intro x o hx
  by_cases e : x = a
  · exact ⟨_, e ▸ h.1⟩
  · by_cases e2 : x = w.2.1 kd
    · exact ⟨_, e2 ▸ h.2.1.2.1 kd hk⟩
    · exact ⟨o, h.2.2.1 x o hx e e2⟩
end CL0
def mColl : Nat → MI
  | 0 => M3_collect
  | _ + 1 => M11_collect
theorem sColl {h : Nat} : Site RX11 (.invokevirtual 44) 6 (some (clsP h)) (mColl h) := by
  cases h with
  | zero => exact s11_44_3
  | succ h => exact s11_44_11
def nLtN {X : Type} (f : X → Nat) : Nd X → Nat
  | (_, _, ks, ls, _, _) => ls.length + ksum (fun c => f c.2.2) ks
/-- how many letters -/
def nLt : (h : Nat) → PT h → Nat
  | 0, _ => 0
  | h + 1, t => nLtN (nLt h) t
/-- credit for Work's rows from a depth on -/
def Wr (w : WS) : Nat → Nat → Nat
  | 0, _ => 0
  | h + 1, d => psiK 0 (w.2.2 0 d) + Wr w h (d + 1)
def is0 (kd : Nat) : Prop := kd = 0
def ColS (g : Cx) (l : Launch) (h : Nat) : Prop := ∀ (d k n : Nat) (α : AM) (t : PT h) (lo hi a b : Int32) (to : Nat) (rt : Prs) (ct : Nat) (w : WS) (dp : Nat),
  Th α h t → Wf h t lo hi → a ≤ b → α to = some (oR rt ct) → 16 ≤ ct → ct ≤ 5120 → rt.length + wt h t ≤ 2560 → WK α w dp → dp + h ≤ 16 → to ∉ allT h t → ¬ wFp w dp to → (∀ x ∈ allT h t, ¬ wFp w dp x) →
  (20480 - 4 * ct) + Wr w h dp + 4 * nLt h t ≤ n → n ≤ 4 * k → h + 4 ≤ d →
  aMs g l d k n (mColl h) [.ref (adr h t), .int a, .int b, .ref to, .ref w.1, .int (nI dp)] α (fun o α' k' n' => ∃ (r : Prs) (ct' : Nat), o = .returned none ∧ ∃ w', α' to = some (oR (rt ++ r) ct') ∧ 16 ≤ ct' ∧ ct' ≤ 5120 ∧ isRng (den h t) a b r ∧ r.length ≤ wt h t ∧ WK α' w' dp ∧ wSm α w w' is0 dp ∧ (∀ x o, α x = some o → x ≠ to → ¬ wFp w dp x → α' x = some o) ∧
    n + (20480 - 4 * ct') + Wr w' h dp ≤ n' + (20480 - 4 * ct) + Wr w h dp + 4 * nLt h t ∧ n' ≤ 4 * k')
section CL1
variable {g : Cx} {l : Launch}
theorem col_leaf : ColS g l 0 := by
  intro d k n α t lo hi a b to rt ct w dp hT hw hab hto hc1 hc2 hlen hW hdp hnt hnw hsep hn hkn hd μ hR
  obtain ⟨⟨p, r⟩, o, row, c⟩ := t
  obtain ⟨w1, w2, w3, w4, w5⟩ := hw
  have hn : (20480 - 4 * ct) + 0 + 4 * 0 ≤ n := hn
  have hlen : rt.length + max 8 row.length ≤ 2560 := hlen
  have npr : p ≠ to := fun e => hnt (e ▸ List.mem_cons_self)
  have nrr : r ≠ to := fun e => hnt (e ▸ List.mem_cons_of_mem _ List.mem_cons_self)
  have hTp : α p = some (oW (cO 3 [.int o, .ref r])) := hT.1
  have hTr : α r = some (oR row c) := hT.2
  have hb1 : blw a row ≤ upt b row := upt_ge hab
  have hb2 := upt_le (key := b) (r := row)
  -- the loop
  have lp : ∀ (f j cj : Nat) (μc : Mem) (kc nc : Nat), upt b row - j < f → blw a row ≤ j → j ≤ upt b row → Rep (aset α to (oR (rt ++ (row.take j).drop (blw a row)) cj)) μc → 16 ≤ cj → cj ≤ 5120 → gR ct k n cj kc nc 2560 →
      bB g l M3_collect d (fun o' μ' k' n' => ∃ α', Rep α' μ' ∧ ∃ (r' : Prs) (ct' : Nat), o' = .returned none ∧ ∃ w', α' to = some (oR (rt ++ r') ct') ∧ 16 ≤ ct' ∧ ct' ≤ 5120 ∧ isRng (den 0 ((p, r), o, row, c)) a b r' ∧ r'.length ≤ wt 0 ((p, r), o, row, c) ∧ WK α' w' dp ∧ wSm α w w' is0 dp ∧ (∀ x o, α x = some o → x ≠ to → ¬ wFp w dp x → α' x = some o) ∧
    n + (20480 - 4 * ct') + Wr w' 0 dp ≤ n' + (20480 - 4 * ct) + Wr w 0 dp + 4 * nLt 0 ((p, r), o, row, c) ∧ n' ≤ 4 * k') 20 [(0, .ref p), (3, .ref to), (6, .int (nI (upt b row))), (7, .int (nI j))] [] μc kc nc := by
    intro f
    induction f with
    | zero => intro j cj μc kc nc h; omega
    | succ f ihf =>
      intro j cj μc kc nc hf hj1 hj2 hRc hcj hcj2 hg
      have e1 : aset α to (oR (rt ++ (row.take j).drop (blw a row)) cj) p = some (oW (cO 3 [.int o, .ref r])) := (aset_n npr).trans hTp
      have e2 : aset α to (oR (rt ++ (row.take j).drop (blw a row)) cj) r = some (oR row c) := (aset_n nrr).trans hTr
      have m1 := hRc.raw e1
      obtain ⟨kr, vr, ks, vs, h1, h2, h3, h4, h5, h6, h7, h8, h9⟩ := hRc.row e2
      have hcap : c ≤ 1000000 := h7
      obtain ⟨kr', vr', ks', vs', mto, -⟩ := hRc.row (α := aset α to (oR (rt ++ (row.take j).drop (blw a row)) cj)) aset_s
      have hg0 := hg.1
      unfold gR0 at hg0
      refine b_iload dX3_collect_20 rfl ?_
      refine b_iload dX3_collect_22 rfl ?_
      refine b_icmp_ge (tgt := 57) dX3_collect_24 (by decide) (fun h24 => ?_) (fun h24 => ?_)
      · rw [nI_leI (by omega) (by omega)] at h24
        have e : j = upt b row := by omega
        subst e
        refine b_vret dX3_collect_57 rfl ?_
        refine ⟨_, hRc, (row.take (upt b row)).drop (blw a row), cj, rfl, w, aset_s, hcj, hcj2, ⟨w1.take.drop, fun x v => ?_⟩, ?_, hW.chg hto aset_s hnw (fun x o hx ho => (aset_n hx).trans ho), wSm.rf, fun x o ho hx _ => (aset_n hx).trans ho, ?_, by omega⟩
        · show _ ↔ _ ∧ _ ∧ lkp row x = some v
          rw [lkp_iff w1]
          constructor
          · intro h
            obtain ⟨i, hi⟩ := mem_get.mp h
            rw [List.getElem?_drop, List.getElem?_take] at hi
            split at hi
            · next hlt =>
              have hx := (mem_tku w1).mp (mem_get.mpr ⟨_, by rw [List.getElem?_take, if_pos hlt]; exact hi⟩)
              have hge := srt_ge w1 (key := a) (by omega) hi
              rw [i_lt] at hge
              exact ⟨by rw [i_le]; dsimp only at hge; omega, hx.2, hx.1⟩
            · cases hi
          · rintro ⟨q1, q2, q3⟩
            have hx := (mem_tku w1).mpr ⟨q3, q2⟩
            obtain ⟨i, hi⟩ := mem_get.mp hx
            have hi' := hi
            rw [List.getElem?_take] at hi'
            split at hi'
            · next hlt =>
              have hge : blw a row ≤ i := Nat.le_of_not_lt (fun h2 => by
                have := blw_lt h2 hi'
                rw [i_lt] at this
                rw [i_le] at q1
                dsimp only at this
                omega)
              refine mem_get.mpr ⟨i - blw a row, ?_⟩
              rw [List.getElem?_drop, show blw a row + (i - blw a row) = i by omega]
              exact hi
            · cases hi'
        · show _ ≤ max 8 row.length
          simp
          omega
        · show n + (20480 - 4 * cj) + 0 ≤ nc + (20480 - 4 * ct) + 0 + 4 * 0
          omega
      · rw [nI_leI (by omega) (by omega)] at h24
        obtain ⟨q, hq⟩ := at_of (l := row) (j := j) (by omega)
        have hk := get_of_take h8 hq
        have hv := get_of_take h9 hq
        have hix : ix ks (nI j) = some q.1 := by rw [ix_n (by omega)]; exact hk
        have hiy : ix vs (nI j) = some q.2 := by rw [ix_n (by omega)]; exact hv
        have hl2 : (rt ++ (row.take j).drop (blw a row)).length = rt.length + (j - blw a row) := by simp; omega
        first | refine b_aload_n dX3_collect_27 rfl ?_ | refine b_aload_nN dX3_collect_27 rfl ?_
        first | refine b_aload_n dX3_collect_28 rfl ?_ | refine b_aload_nN dX3_collect_28 rfl ?_
        refine b_getf dX3_collect_29 f3_9 (by first | assumption | exact mset_s | exact Rep.raw (by assumption) (by assumption) | (refine (mset_n (by first | assumption | exact Ne.symm (by assumption) | exact ne_fr (by assumption) (by assumption) | exact Ne.symm (ne_fr (by assumption) (by assumption)))).trans ?_; first | assumption | exact mset_s | exact Rep.raw (by assumption) (by assumption) | (refine (mset_n (by first | assumption | exact Ne.symm (by assumption) | exact ne_fr (by assumption) (by assumption) | exact Ne.symm (ne_fr (by assumption) (by assumption)))).trans ?_; first | assumption | exact mset_s | exact Rep.raw (by assumption) (by assumption) | (refine (mset_n (by first | assumption | exact Ne.symm (by assumption) | exact ne_fr (by assumption) (by assumption) | exact Ne.symm (ne_fr (by assumption) (by assumption)))).trans ?_; first | assumption | exact mset_s | exact Rep.raw (by assumption) (by assumption) | (refine (mset_n (by first | assumption | exact Ne.symm (by assumption) | exact ne_fr (by assumption) (by assumption) | exact Ne.symm (ne_fr (by assumption) (by assumption)))).trans ?_; first | assumption | exact mset_s | exact Rep.raw (by assumption) (by assumption) | (refine (mset_n (by first | assumption | exact Ne.symm (by assumption) | exact ne_fr (by assumption) (by assumption) | exact Ne.symm (ne_fr (by assumption) (by assumption)))).trans ?_; first | assumption | exact mset_s | exact Rep.raw (by assumption) (by assumption) | (refine (mset_n (by first | assumption | exact Ne.symm (by assumption) | exact ne_fr (by assumption) (by assumption) | exact Ne.symm (ne_fr (by assumption) (by assumption)))).trans ?_; first | assumption | exact mset_s | exact Rep.raw (by assumption) (by assumption) | (refine (mset_n (by first | assumption | exact Ne.symm (by assumption) | exact ne_fr (by assumption) (by assumption) | exact Ne.symm (ne_fr (by assumption) (by assumption)))).trans ?_; assumption)))))))) rfl ?_
        refine b_getf dX3_collect_32 f3_24 (by first | assumption | exact mset_s | exact Rep.raw (by assumption) (by assumption) | (refine (mset_n (by first | assumption | exact Ne.symm (by assumption) | exact ne_fr (by assumption) (by assumption) | exact Ne.symm (ne_fr (by assumption) (by assumption)))).trans ?_; first | assumption | exact mset_s | exact Rep.raw (by assumption) (by assumption) | (refine (mset_n (by first | assumption | exact Ne.symm (by assumption) | exact ne_fr (by assumption) (by assumption) | exact Ne.symm (ne_fr (by assumption) (by assumption)))).trans ?_; first | assumption | exact mset_s | exact Rep.raw (by assumption) (by assumption) | (refine (mset_n (by first | assumption | exact Ne.symm (by assumption) | exact ne_fr (by assumption) (by assumption) | exact Ne.symm (ne_fr (by assumption) (by assumption)))).trans ?_; first | assumption | exact mset_s | exact Rep.raw (by assumption) (by assumption) | (refine (mset_n (by first | assumption | exact Ne.symm (by assumption) | exact ne_fr (by assumption) (by assumption) | exact Ne.symm (ne_fr (by assumption) (by assumption)))).trans ?_; first | assumption | exact mset_s | exact Rep.raw (by assumption) (by assumption) | (refine (mset_n (by first | assumption | exact Ne.symm (by assumption) | exact ne_fr (by assumption) (by assumption) | exact Ne.symm (ne_fr (by assumption) (by assumption)))).trans ?_; first | assumption | exact mset_s | exact Rep.raw (by assumption) (by assumption) | (refine (mset_n (by first | assumption | exact Ne.symm (by assumption) | exact ne_fr (by assumption) (by assumption) | exact Ne.symm (ne_fr (by assumption) (by assumption)))).trans ?_; first | assumption | exact mset_s | exact Rep.raw (by assumption) (by assumption) | (refine (mset_n (by first | assumption | exact Ne.symm (by assumption) | exact ne_fr (by assumption) (by assumption) | exact Ne.symm (ne_fr (by assumption) (by assumption)))).trans ?_; assumption)))))))) rfl ?_
        refine b_iload dX3_collect_35 rfl ?_
        refine b_iald dX3_collect_37 (by first | assumption | exact mset_s | exact Rep.raw (by assumption) (by assumption) | (refine (mset_n (by first | assumption | exact Ne.symm (by assumption) | exact ne_fr (by assumption) (by assumption) | exact Ne.symm (ne_fr (by assumption) (by assumption)))).trans ?_; first | assumption | exact mset_s | exact Rep.raw (by assumption) (by assumption) | (refine (mset_n (by first | assumption | exact Ne.symm (by assumption) | exact ne_fr (by assumption) (by assumption) | exact Ne.symm (ne_fr (by assumption) (by assumption)))).trans ?_; first | assumption | exact mset_s | exact Rep.raw (by assumption) (by assumption) | (refine (mset_n (by first | assumption | exact Ne.symm (by assumption) | exact ne_fr (by assumption) (by assumption) | exact Ne.symm (ne_fr (by assumption) (by assumption)))).trans ?_; first | assumption | exact mset_s | exact Rep.raw (by assumption) (by assumption) | (refine (mset_n (by first | assumption | exact Ne.symm (by assumption) | exact ne_fr (by assumption) (by assumption) | exact Ne.symm (ne_fr (by assumption) (by assumption)))).trans ?_; first | assumption | exact mset_s | exact Rep.raw (by assumption) (by assumption) | (refine (mset_n (by first | assumption | exact Ne.symm (by assumption) | exact ne_fr (by assumption) (by assumption) | exact Ne.symm (ne_fr (by assumption) (by assumption)))).trans ?_; first | assumption | exact mset_s | exact Rep.raw (by assumption) (by assumption) | (refine (mset_n (by first | assumption | exact Ne.symm (by assumption) | exact ne_fr (by assumption) (by assumption) | exact Ne.symm (ne_fr (by assumption) (by assumption)))).trans ?_; first | assumption | exact mset_s | exact Rep.raw (by assumption) (by assumption) | (refine (mset_n (by first | assumption | exact Ne.symm (by assumption) | exact ne_fr (by assumption) (by assumption) | exact Ne.symm (ne_fr (by assumption) (by assumption)))).trans ?_; assumption)))))))) (by first | assumption | exact ix_D (by first | assumption | omega) (by first | assumption | omega)) ?_
        first | refine b_aload_n dX3_collect_38 rfl ?_ | refine b_aload_nN dX3_collect_38 rfl ?_
        refine b_getf dX3_collect_39 f3_9 (by first | assumption | exact mset_s | exact Rep.raw (by assumption) (by assumption) | (refine (mset_n (by first | assumption | exact Ne.symm (by assumption) | exact ne_fr (by assumption) (by assumption) | exact Ne.symm (ne_fr (by assumption) (by assumption)))).trans ?_; first | assumption | exact mset_s | exact Rep.raw (by assumption) (by assumption) | (refine (mset_n (by first | assumption | exact Ne.symm (by assumption) | exact ne_fr (by assumption) (by assumption) | exact Ne.symm (ne_fr (by assumption) (by assumption)))).trans ?_; first | assumption | exact mset_s | exact Rep.raw (by assumption) (by assumption) | (refine (mset_n (by first | assumption | exact Ne.symm (by assumption) | exact ne_fr (by assumption) (by assumption) | exact Ne.symm (ne_fr (by assumption) (by assumption)))).trans ?_; first | assumption | exact mset_s | exact Rep.raw (by assumption) (by assumption) | (refine (mset_n (by first | assumption | exact Ne.symm (by assumption) | exact ne_fr (by assumption) (by assumption) | exact Ne.symm (ne_fr (by assumption) (by assumption)))).trans ?_; first | assumption | exact mset_s | exact Rep.raw (by assumption) (by assumption) | (refine (mset_n (by first | assumption | exact Ne.symm (by assumption) | exact ne_fr (by assumption) (by assumption) | exact Ne.symm (ne_fr (by assumption) (by assumption)))).trans ?_; first | assumption | exact mset_s | exact Rep.raw (by assumption) (by assumption) | (refine (mset_n (by first | assumption | exact Ne.symm (by assumption) | exact ne_fr (by assumption) (by assumption) | exact Ne.symm (ne_fr (by assumption) (by assumption)))).trans ?_; first | assumption | exact mset_s | exact Rep.raw (by assumption) (by assumption) | (refine (mset_n (by first | assumption | exact Ne.symm (by assumption) | exact ne_fr (by assumption) (by assumption) | exact Ne.symm (ne_fr (by assumption) (by assumption)))).trans ?_; assumption)))))))) rfl ?_
        refine b_getf dX3_collect_42 f3_28 (by first | assumption | exact mset_s | exact Rep.raw (by assumption) (by assumption) | (refine (mset_n (by first | assumption | exact Ne.symm (by assumption) | exact ne_fr (by assumption) (by assumption) | exact Ne.symm (ne_fr (by assumption) (by assumption)))).trans ?_; first | assumption | exact mset_s | exact Rep.raw (by assumption) (by assumption) | (refine (mset_n (by first | assumption | exact Ne.symm (by assumption) | exact ne_fr (by assumption) (by assumption) | exact Ne.symm (ne_fr (by assumption) (by assumption)))).trans ?_; first | assumption | exact mset_s | exact Rep.raw (by assumption) (by assumption) | (refine (mset_n (by first | assumption | exact Ne.symm (by assumption) | exact ne_fr (by assumption) (by assumption) | exact Ne.symm (ne_fr (by assumption) (by assumption)))).trans ?_; first | assumption | exact mset_s | exact Rep.raw (by assumption) (by assumption) | (refine (mset_n (by first | assumption | exact Ne.symm (by assumption) | exact ne_fr (by assumption) (by assumption) | exact Ne.symm (ne_fr (by assumption) (by assumption)))).trans ?_; first | assumption | exact mset_s | exact Rep.raw (by assumption) (by assumption) | (refine (mset_n (by first | assumption | exact Ne.symm (by assumption) | exact ne_fr (by assumption) (by assumption) | exact Ne.symm (ne_fr (by assumption) (by assumption)))).trans ?_; first | assumption | exact mset_s | exact Rep.raw (by assumption) (by assumption) | (refine (mset_n (by first | assumption | exact Ne.symm (by assumption) | exact ne_fr (by assumption) (by assumption) | exact Ne.symm (ne_fr (by assumption) (by assumption)))).trans ?_; first | assumption | exact mset_s | exact Rep.raw (by assumption) (by assumption) | (refine (mset_n (by first | assumption | exact Ne.symm (by assumption) | exact ne_fr (by assumption) (by assumption) | exact Ne.symm (ne_fr (by assumption) (by assumption)))).trans ?_; assumption)))))))) rfl ?_
        refine b_iload dX3_collect_45 rfl ?_
        refine b_lald dX3_collect_47 (by first | assumption | exact mset_s | exact Rep.raw (by assumption) (by assumption) | (refine (mset_n (by first | assumption | exact Ne.symm (by assumption) | exact ne_fr (by assumption) (by assumption) | exact Ne.symm (ne_fr (by assumption) (by assumption)))).trans ?_; first | assumption | exact mset_s | exact Rep.raw (by assumption) (by assumption) | (refine (mset_n (by first | assumption | exact Ne.symm (by assumption) | exact ne_fr (by assumption) (by assumption) | exact Ne.symm (ne_fr (by assumption) (by assumption)))).trans ?_; first | assumption | exact mset_s | exact Rep.raw (by assumption) (by assumption) | (refine (mset_n (by first | assumption | exact Ne.symm (by assumption) | exact ne_fr (by assumption) (by assumption) | exact Ne.symm (ne_fr (by assumption) (by assumption)))).trans ?_; first | assumption | exact mset_s | exact Rep.raw (by assumption) (by assumption) | (refine (mset_n (by first | assumption | exact Ne.symm (by assumption) | exact ne_fr (by assumption) (by assumption) | exact Ne.symm (ne_fr (by assumption) (by assumption)))).trans ?_; first | assumption | exact mset_s | exact Rep.raw (by assumption) (by assumption) | (refine (mset_n (by first | assumption | exact Ne.symm (by assumption) | exact ne_fr (by assumption) (by assumption) | exact Ne.symm (ne_fr (by assumption) (by assumption)))).trans ?_; first | assumption | exact mset_s | exact Rep.raw (by assumption) (by assumption) | (refine (mset_n (by first | assumption | exact Ne.symm (by assumption) | exact ne_fr (by assumption) (by assumption) | exact Ne.symm (ne_fr (by assumption) (by assumption)))).trans ?_; first | assumption | exact mset_s | exact Rep.raw (by assumption) (by assumption) | (refine (mset_n (by first | assumption | exact Ne.symm (by assumption) | exact ne_fr (by assumption) (by assumption) | exact Ne.symm (ne_fr (by assumption) (by assumption)))).trans ?_; assumption)))))))) (by first | assumption | exact ix_D (by first | assumption | omega) (by first | assumption | omega)) ?_
        refine b_call (As := [.ref to, .int q.1, .long q.2]) (rest := []) s3_32 dX3_collect_48 rfl rfl (fun ci hci => by cases hci; exact ⟨_, _, _, rfl, by first | assumption | exact mset_s | exact Rep.raw (by assumption) (by assumption) | (refine (mset_n (by first | assumption | exact Ne.symm (by assumption) | exact ne_fr (by assumption) (by assumption) | exact Ne.symm (ne_fr (by assumption) (by assumption)))).trans ?_; first | assumption | exact mset_s | exact Rep.raw (by assumption) (by assumption) | (refine (mset_n (by first | assumption | exact Ne.symm (by assumption) | exact ne_fr (by assumption) (by assumption) | exact Ne.symm (ne_fr (by assumption) (by assumption)))).trans ?_; first | assumption | exact mset_s | exact Rep.raw (by assumption) (by assumption) | (refine (mset_n (by first | assumption | exact Ne.symm (by assumption) | exact ne_fr (by assumption) (by assumption) | exact Ne.symm (ne_fr (by assumption) (by assumption)))).trans ?_; first | assumption | exact mset_s | exact Rep.raw (by assumption) (by assumption) | (refine (mset_n (by first | assumption | exact Ne.symm (by assumption) | exact ne_fr (by assumption) (by assumption) | exact Ne.symm (ne_fr (by assumption) (by assumption)))).trans ?_; first | assumption | exact mset_s | exact Rep.raw (by assumption) (by assumption) | (refine (mset_n (by first | assumption | exact Ne.symm (by assumption) | exact ne_fr (by assumption) (by assumption) | exact Ne.symm (ne_fr (by assumption) (by assumption)))).trans ?_; first | assumption | exact mset_s | exact Rep.raw (by assumption) (by assumption) | (refine (mset_n (by first | assumption | exact Ne.symm (by assumption) | exact ne_fr (by assumption) (by assumption) | exact Ne.symm (ne_fr (by assumption) (by assumption)))).trans ?_; first | assumption | exact mset_s | exact Rep.raw (by assumption) (by assumption) | (refine (mset_n (by first | assumption | exact Ne.symm (by assumption) | exact ne_fr (by assumption) (by assumption) | exact Ne.symm (ne_fr (by assumption) (by assumption)))).trans ?_; assumption)))))))⟩) (sp_add' (d := 1) aset_s (N := 2560) (by omega) hcj (by omega) (by omega) (by omega) (by omega) _ hRc) (by first | (rintro _ _ _ _ ⟨h, -⟩; exact ⟨_, h⟩) | (rintro _ _ _ _ ⟨_, h, -⟩; exact ⟨_, h⟩) | (rintro _ _ _ _ ⟨_, _, h, -⟩; exact ⟨_, h⟩) | (rintro _ _ _ _ ⟨_, _, _, h, -⟩; exact ⟨_, h⟩) | (rintro _ _ _ _ ⟨_, _, _, _, h, -⟩; exact ⟨_, h⟩)) (by omega) (Nat.le_of_ble_eq_true rfl) (fun v1 μ1 k1 n1 hk1 hn1 hQ1 => ?_)
        obtain ⟨α1, hR1, z1, c', z2, z3⟩ := hQ1
        cases z1
        rw [aset2] at z2
        have e3 : rt ++ (row.take j).drop (blw a row) ++ [(q.1, q.2)] = rt ++ (row.take (j + 1)).drop (blw a row) := by
          rw [take_snoc hq, List.drop_append_of_le_length (by simp; omega), List.append_assoc]
        rw [e3] at z2
        subst z2
        first | refine b_iincN dX3_collect_51 rfl (by decide) ?_ | refine b_iinc1 dX3_collect_51 rfl (by decide) ?_
        refine b_goto (tgt := 20) dX3_collect_54 (by decide) ?_
        have hg9 := (hg.tr z3).1
        unfold gR0 at hg9
        exact bB.locs rfl (ihf (j + 1) c' _ _ _ (by omega) (by omega) (by omega) hR1 (by omega) (by omega) (hg.tr z3))
  have m1 := hR.raw hTp
  obtain ⟨kr, vr, ks, vs, hrow⟩ := hR.row hTr
  have hrow0 := hrow.1
  refine Ms.of (M := M3_collect) rfl rfl (Nat.le_of_ble_eq_true rfl) ?_
  first | refine b_aload_n dX3_collect_0 rfl ?_ | refine b_aload_nN dX3_collect_0 rfl ?_
  refine b_getf dX3_collect_1 f3_9 (by first | assumption | exact mset_s | exact Rep.raw (by assumption) (by assumption) | (refine (mset_n (by first | assumption | exact Ne.symm (by assumption) | exact ne_fr (by assumption) (by assumption) | exact Ne.symm (ne_fr (by assumption) (by assumption)))).trans ?_; first | assumption | exact mset_s | exact Rep.raw (by assumption) (by assumption) | (refine (mset_n (by first | assumption | exact Ne.symm (by assumption) | exact ne_fr (by assumption) (by assumption) | exact Ne.symm (ne_fr (by assumption) (by assumption)))).trans ?_; first | assumption | exact mset_s | exact Rep.raw (by assumption) (by assumption) | (refine (mset_n (by first | assumption | exact Ne.symm (by assumption) | exact ne_fr (by assumption) (by assumption) | exact Ne.symm (ne_fr (by assumption) (by assumption)))).trans ?_; first | assumption | exact mset_s | exact Rep.raw (by assumption) (by assumption) | (refine (mset_n (by first | assumption | exact Ne.symm (by assumption) | exact ne_fr (by assumption) (by assumption) | exact Ne.symm (ne_fr (by assumption) (by assumption)))).trans ?_; first | assumption | exact mset_s | exact Rep.raw (by assumption) (by assumption) | (refine (mset_n (by first | assumption | exact Ne.symm (by assumption) | exact ne_fr (by assumption) (by assumption) | exact Ne.symm (ne_fr (by assumption) (by assumption)))).trans ?_; first | assumption | exact mset_s | exact Rep.raw (by assumption) (by assumption) | (refine (mset_n (by first | assumption | exact Ne.symm (by assumption) | exact ne_fr (by assumption) (by assumption) | exact Ne.symm (ne_fr (by assumption) (by assumption)))).trans ?_; first | assumption | exact mset_s | exact Rep.raw (by assumption) (by assumption) | (refine (mset_n (by first | assumption | exact Ne.symm (by assumption) | exact ne_fr (by assumption) (by assumption) | exact Ne.symm (ne_fr (by assumption) (by assumption)))).trans ?_; assumption)))))))) rfl ?_
  refine b_iload_n dX3_collect_4 rfl ?_
  refine b_callA (As := [.ref r, .int b]) (rest := []) s3_15 dX3_collect_5 rfl rfl (fun ci hci => by cases hci; exact ⟨_, _, _, rfl, by first | assumption | exact mset_s | exact Rep.raw (by assumption) (by assumption) | (refine (mset_n (by first | assumption | exact Ne.symm (by assumption) | exact ne_fr (by assumption) (by assumption) | exact Ne.symm (ne_fr (by assumption) (by assumption)))).trans ?_; first | assumption | exact mset_s | exact Rep.raw (by assumption) (by assumption) | (refine (mset_n (by first | assumption | exact Ne.symm (by assumption) | exact ne_fr (by assumption) (by assumption) | exact Ne.symm (ne_fr (by assumption) (by assumption)))).trans ?_; first | assumption | exact mset_s | exact Rep.raw (by assumption) (by assumption) | (refine (mset_n (by first | assumption | exact Ne.symm (by assumption) | exact ne_fr (by assumption) (by assumption) | exact Ne.symm (ne_fr (by assumption) (by assumption)))).trans ?_; first | assumption | exact mset_s | exact Rep.raw (by assumption) (by assumption) | (refine (mset_n (by first | assumption | exact Ne.symm (by assumption) | exact ne_fr (by assumption) (by assumption) | exact Ne.symm (ne_fr (by assumption) (by assumption)))).trans ?_; first | assumption | exact mset_s | exact Rep.raw (by assumption) (by assumption) | (refine (mset_n (by first | assumption | exact Ne.symm (by assumption) | exact ne_fr (by assumption) (by assumption) | exact Ne.symm (ne_fr (by assumption) (by assumption)))).trans ?_; first | assumption | exact mset_s | exact Rep.raw (by assumption) (by assumption) | (refine (mset_n (by first | assumption | exact Ne.symm (by assumption) | exact ne_fr (by assumption) (by assumption) | exact Ne.symm (ne_fr (by assumption) (by assumption)))).trans ?_; first | assumption | exact mset_s | exact Rep.raw (by assumption) (by assumption) | (refine (mset_n (by first | assumption | exact Ne.symm (by assumption) | exact ne_fr (by assumption) (by assumption) | exact Ne.symm (ne_fr (by assumption) (by assumption)))).trans ?_; assumption)))))))⟩) (hrow.upTo (d := 1) w1 (by omega)) (by omega) (Nat.le_of_ble_eq_true rfl) ?_
  refine b_istore dX3_collect_8 (by decide) ?_
  first | refine b_aload_n dX3_collect_10 rfl ?_ | refine b_aload_nN dX3_collect_10 rfl ?_
  refine b_getf dX3_collect_11 f3_9 (by first | assumption | exact mset_s | exact Rep.raw (by assumption) (by assumption) | (refine (mset_n (by first | assumption | exact Ne.symm (by assumption) | exact ne_fr (by assumption) (by assumption) | exact Ne.symm (ne_fr (by assumption) (by assumption)))).trans ?_; first | assumption | exact mset_s | exact Rep.raw (by assumption) (by assumption) | (refine (mset_n (by first | assumption | exact Ne.symm (by assumption) | exact ne_fr (by assumption) (by assumption) | exact Ne.symm (ne_fr (by assumption) (by assumption)))).trans ?_; first | assumption | exact mset_s | exact Rep.raw (by assumption) (by assumption) | (refine (mset_n (by first | assumption | exact Ne.symm (by assumption) | exact ne_fr (by assumption) (by assumption) | exact Ne.symm (ne_fr (by assumption) (by assumption)))).trans ?_; first | assumption | exact mset_s | exact Rep.raw (by assumption) (by assumption) | (refine (mset_n (by first | assumption | exact Ne.symm (by assumption) | exact ne_fr (by assumption) (by assumption) | exact Ne.symm (ne_fr (by assumption) (by assumption)))).trans ?_; first | assumption | exact mset_s | exact Rep.raw (by assumption) (by assumption) | (refine (mset_n (by first | assumption | exact Ne.symm (by assumption) | exact ne_fr (by assumption) (by assumption) | exact Ne.symm (ne_fr (by assumption) (by assumption)))).trans ?_; first | assumption | exact mset_s | exact Rep.raw (by assumption) (by assumption) | (refine (mset_n (by first | assumption | exact Ne.symm (by assumption) | exact ne_fr (by assumption) (by assumption) | exact Ne.symm (ne_fr (by assumption) (by assumption)))).trans ?_; first | assumption | exact mset_s | exact Rep.raw (by assumption) (by assumption) | (refine (mset_n (by first | assumption | exact Ne.symm (by assumption) | exact ne_fr (by assumption) (by assumption) | exact Ne.symm (ne_fr (by assumption) (by assumption)))).trans ?_; assumption)))))))) rfl ?_
  refine b_iload_n dX3_collect_14 rfl ?_
  refine b_callA (As := [.ref r, .int a]) (rest := []) s3_21 dX3_collect_15 rfl rfl (fun ci hci => by cases hci; exact ⟨_, _, _, rfl, by first | assumption | exact mset_s | exact Rep.raw (by assumption) (by assumption) | (refine (mset_n (by first | assumption | exact Ne.symm (by assumption) | exact ne_fr (by assumption) (by assumption) | exact Ne.symm (ne_fr (by assumption) (by assumption)))).trans ?_; first | assumption | exact mset_s | exact Rep.raw (by assumption) (by assumption) | (refine (mset_n (by first | assumption | exact Ne.symm (by assumption) | exact ne_fr (by assumption) (by assumption) | exact Ne.symm (ne_fr (by assumption) (by assumption)))).trans ?_; first | assumption | exact mset_s | exact Rep.raw (by assumption) (by assumption) | (refine (mset_n (by first | assumption | exact Ne.symm (by assumption) | exact ne_fr (by assumption) (by assumption) | exact Ne.symm (ne_fr (by assumption) (by assumption)))).trans ?_; first | assumption | exact mset_s | exact Rep.raw (by assumption) (by assumption) | (refine (mset_n (by first | assumption | exact Ne.symm (by assumption) | exact ne_fr (by assumption) (by assumption) | exact Ne.symm (ne_fr (by assumption) (by assumption)))).trans ?_; first | assumption | exact mset_s | exact Rep.raw (by assumption) (by assumption) | (refine (mset_n (by first | assumption | exact Ne.symm (by assumption) | exact ne_fr (by assumption) (by assumption) | exact Ne.symm (ne_fr (by assumption) (by assumption)))).trans ?_; first | assumption | exact mset_s | exact Rep.raw (by assumption) (by assumption) | (refine (mset_n (by first | assumption | exact Ne.symm (by assumption) | exact ne_fr (by assumption) (by assumption) | exact Ne.symm (ne_fr (by assumption) (by assumption)))).trans ?_; first | assumption | exact mset_s | exact Rep.raw (by assumption) (by assumption) | (refine (mset_n (by first | assumption | exact Ne.symm (by assumption) | exact ne_fr (by assumption) (by assumption) | exact Ne.symm (ne_fr (by assumption) (by assumption)))).trans ?_; assumption)))))))⟩) (hrow.below (d := 0) w1) (by omega) (Nat.le_of_ble_eq_true rfl) ?_
  refine b_istore dX3_collect_18 (by decide) ?_
  refine bB.locs rfl (lp (upt b row + 1) (blw a row) ct μ k n (by omega) (Nat.le_refl _) hb1 ?_ hc1 hc2 gR.rf)
  rw [List.drop_eq_nil_of_le (by simp; omega), List.append_nil, aset_id hto]
  exact hR
end CL1
