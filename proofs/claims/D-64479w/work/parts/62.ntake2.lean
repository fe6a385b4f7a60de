/-! Inner.take: its start -/
set_option maxRecDepth 100000
section NT2
variable {g : Cx} {l : Launch}
theorem xs_app {h : Nat} {ks : List (Kid h)} {a b : List Msg} : xs h ks (a ++ b) = xs h ks a + xs h ks b := ksum_app
theorem puts_app {a b : List (Nat × Msg)} : puts (a ++ b) = puts a + puts b := by unfold puts; rw [List.countP_append]
theorem len_pn {ms : List (Nat × Msg)} : ms.length = puts ms + nR ms := by
  have := len_pR (ms := ms.map (·.2))
  rw [List.length_map] at this
  rw [puts_ls, nR_ls]
  exact this
theorem hcR_nR {ms : List (Nat × Msg)} {lo hi : Int32} : hcR (ms.map (·.2)) lo hi ≤ nR ms := by
  rw [nR_ls]
  unfold hcR
  refine List.countP_mono_left (fun m _ hm => ?_)
  rw [Bool.and_eq_true] at hm
  exact hm.1
theorem hcR_app {a b : List Msg} {lo hi : Int32} : hcR (a ++ b) lo hi = hcR a lo hi + hcR b lo hi := by unfold hcR; rw [List.countP_append]
/-- what comes pays its coming -/
theorem inc_xs {h : Nat} {p cp cl c1 c2 : Nat} {o lo hi : Int32} {ks : List (Kid h)} {ls ms : List (Nat × Msg)} (hch : chn lo.toInt hi.toInt ks) (hwf : wfK ks) (hls : lsOk lo hi ms) : xs h ks (ms.map (·.2)) + 4 * nR ms ≤ ksum (incX (h + 1) (lo, hi, mkN p cp cl o ks ls c1 c2)) ms := by
  induction ms with
  | nil => exact Nat.le_refl _
  | cons q t iht =>
    have i1 := iht (fun q hq => hls q (List.mem_cons_of_mem _ hq))
    obtain ⟨ok, b1, b2⟩ := hls q List.mem_cons_self
    have ok1 := ok.1
    rw [i_le] at b1 b2 ok1
    have a1 : xs h ks ((q :: t).map (·.2)) = xm h ks q.2 + xs h ks (t.map (·.2)) := ksum_cons
    have a2 : nR (q :: t) = nR t + (if isR q.2 = true then 1 else 0) := by unfold nR; rw [List.countP_cons]
    rw [ksum_cons, a1, a2]
    have a3 : xm h ks q.2 + 4 * (if isR q.2 = true then 1 else 0) ≤ incX (h + 1) (lo, hi, mkN p cp cl o ks ls c1 c2) q := by
      unfold xm incX
      by_cases hr : isR q.2 = true
      · rw [if_pos hr, if_pos hr, if_pos hr]
        have hh : hit q.2 lo hi = true := hit_iff.mpr ⟨by omega, by omega⟩
        have e : rq (h + 1) (lo, hi, mkN p cp cl o ks ls c1 c2) q.2 = 4 + rqk h ks q.2 := by
          show (if hit q.2 lo hi = true then 4 else 0) + _ = _
          rw [if_pos hh]
          rfl
        have h8 := rqk_ge hch hwf ok (x := q.2.2.1) (Int.le_refl _) ok1 b1 (by omega)
        rw [e]
        omega
      · rw [if_neg hr, if_neg hr, if_neg hr]
        exact Nat.le_refl _
    omega
/-- the page at the loop's start -/
theorem tk_start {α α1 α2 : AM} {w : WS} {now lo hi o : Int32} {dp h p cp cl c1 c2 p' cp' cl' c1' c2' c2'' k1 n1 k2 n2 n k La cL : Nat} {Fz : Nat → Prop} {ks : List (Kid h)} {ls ms : List (Nat × Msg)}
    (hP : PreT α Fz now lo hi w dp (h + 1) (mkN p cp cl o ks ls c1 c2)) (hmq : allQ α ms) (hls : lsOk lo hi ms) (hwt : wt (h + 1) (mkN p cp cl o ks ls c1 c2) + puts ms ≤ 2560) (hnr : nR ms + 24 * (h + 1) ≤ 200) (hn : Pg now (h + 1) (mkN p cp cl o ks ls c1 c2) + Xr (h + 1) (mkN p cp cl o ks ls c1 c2) + inc (h + 1) (lo, hi, mkN p cp cl o ks ls c1 c2) ms + Wt w (h + 1) dp ≤ n)
    (hT1 : Th α1 (h + 1) (mkN p' cp' cl' now ks ls c1' c2')) (he : ext α α1) (h4 : 4 ≤ c1') (h8 : 8 ≤ c2')
    (hcase : (o = now ∧ p' = p ∧ cp' = cp ∧ cl' = cl ∧ c1' = c1 ∧ c2' = c2 ∧ α1 = α ∧ n1 = n) ∨ (o ≠ now ∧ α p' = none ∧ α cp' = none ∧ α cl' = none ∧ p' ≠ cp' ∧ p' ≠ cl' ∧ cp' ≠ cl' ∧ n + 8 = n1 + 4 * c1' + 2 * c2' ∧ (c1' = 4 ∨ c1' + 2 ≤ 2 * ks.length) ∧ (c2' = 8 ∨ c2' + 2 ≤ 2 * ls.length)))
    (h2 : α2 = aset α1 cl' (oL ((ls ++ ms).map (·.1)) c2'')) (hg : gL c2' k1 n1 c2'' k2 n2 (ls.length + ms.length)) (hkn : n2 ≤ 4 * k2) (hd9 : g = g) :
    LpQ g l 0 α w now lo hi dp h (mkN p cp cl o ks ls c1 c2) (fun x => effs (ms.map (·.2)) x (den (h + 1) (mkN p cp cl o ks ls c1 c2) x)) (wt (h + 1) (mkN p cp cl o ks ls c1 c2) + puts ms) (Xr (h + 1) (mkN p cp cl o ks ls c1 c2) + ksum (incX (h + 1) (lo, hi, mkN p cp cl o ks ls c1 c2)) ms) p' cp' cl' n (Pg now (h + 1) (mkN p cp cl o ks ls c1 c2) + Xr (h + 1) (mkN p cp cl o ks ls c1 c2) + inc (h + 1) (lo, hi, mkN p cp cl o ks ls c1 c2) ms + Wt w (h + 1) dp) Fz α2 w ks (ls ++ ms) c1' c2'' (max 24 (ls.length + ms.length)) k2 n2 := by
  obtain ⟨hT, hw, hlh, hF, hnd, hof, hfd, hW, hdp, how, hfw⟩ := hP
  obtain ⟨w1, w2, w3, w4, w5, w6, w7, w8, w9, w10⟩ := hw
  obtain ⟨F1, F2, F3⟩ := hF
  have hownt : ownT now (h + 1) (mkN p cp cl o ks ls c1 c2) = (if o = now then [p, cp, cl] else []) ++ ownF now h ks := rfl
  have hcl1 : α1 cl' = some (oL (ls.map (·.1)) c2') := hT1.2.2.1
  have hcl2 : α2 cl' = some (oL ((ls ++ ms).map (·.1)) c2'') := by rw [h2]; exact aset_s
  have hk2 : ∀ x o, x ≠ cl' → α1 x = some o → α2 x = some o := fun x o hx ho => by rw [h2]; exact (aset_n hx).trans ho
  have hmsg2 : ∀ x m, α1 x = some (oW (mC m)) → α2 x = some (oW (mC m)) := fun x m hx => hk2 x _ (fun e => by rw [e, hcl1] at hx; cases hx) hx
  -- owned
  have hOW : (∀ x ∈ [p', cp', cl'] ++ ownF now h ks, x ∈ ownT now (h + 1) (mkN p cp cl o ks ls c1 c2) ∨ α x = none) ∧ ([p', cp', cl'] ++ ownF now h ks).Nodup ∧ (∀ x ∈ [p', cp', cl'] ++ ownF now h ks, ¬ Fz x ∧ ¬ wFp w dp x) := by
    rcases hcase with ⟨h1, rfl, rfl, rfl, -⟩ | ⟨h1, a1, a2, a3, a4, a5, a6, -⟩
    · rw [if_pos h1] at hownt
      rw [hownt] at hnd hof how ⊢
      exact ⟨fun x hx => Or.inl hx, hnd, fun x hx => ⟨hof x hx, how x hx⟩⟩
    · have hfz := (F2 h1).2.2.2
      have h0 : ownF now h ks = [] := by
        unfold ownF
        rw [List.flatMap_eq_nil_iff]
        exact fun c hc => frz.own h c.2.2 (hfz c hc)
      rw [h0, List.append_nil]
      have hx3 : ∀ x ∈ [p', cp', cl'], α x = none := fun x hx => by
        rcases List.mem_cons.mp hx with e | hx
        · rw [e]; exact a1
        · rcases List.mem_cons.mp hx with e | hx
          · rw [e]; exact a2
          · rw [List.mem_singleton.mp hx]; exact a3
      refine ⟨fun x hx => Or.inr (hx3 x hx), by simp; exact ⟨⟨a4, a5⟩, a6⟩, fun x hx => ⟨fun hf => ?_, fun hf => ?_⟩⟩
      · obtain ⟨o9, ho9⟩ := hfd x hf
        rw [hx3 x hx] at ho9; cases ho9
      · obtain ⟨o9, ho9, -⟩ := hW.dom hf
        rw [hx3 x hx] at ho9; cases ho9
  obtain ⟨O1, O2, O3⟩ := hOW
  have hclne : ∀ x ∈ ownF now h ks, x ≠ cl' := fun x hx e => (List.nodup_append.mp O2).2.2 cl' (by simp) x hx e.symm
  have hpcl : p' ≠ cl' ∧ cp' ≠ cl' := by
    have := (List.nodup_append.mp O2).1
    simp at this
    exact ⟨this.1.2, this.2⟩
  have hT2 : Th α2 (h + 1) (mkN p' cp' cl' now ks (ls ++ ms) c1' c2'') := by
    refine ⟨hk2 _ _ hpcl.1 hT1.1, hk2 _ _ hpcl.2 hT1.2.1, hcl2, fun q hq => ?_, fun c hc => ?_⟩
    · rcases List.mem_append.mp hq with h' | h'
      · exact hmsg2 _ _ (hT1.2.2.2.1 q h')
      · exact hmsg2 _ _ (he _ _ (hmq q h'))
    · refine Th.kept (Fz := Fz) (now := now) h c.2.2 (hT1.2.2.2.2 c hc) (F3 c hc) (fun x o' hx ho => hk2 x o' (hclne x (List.mem_flatMap.mpr ⟨c, hc, hx⟩)) ho) (fun x o' hx ho => hk2 x o' (fun e => (O3 cl' (by simp)).1 (e ▸ hx)) ho) hmsg2
  have hW1 : WK α1 w dp := hW.frame (fun x o' _ hx => he x o' hx)
  have hW2 : WK α2 w dp := hW1.chgL hcl1 hcl2 (O3 cl' (by simp)).2 hk2
  have hlen := len_pn (ms := ms)
  have hlen2 := len_pn (ms := ls)
  have hwt' : (ksum (fun c : Kid h => wt h c.2.2) ks + puts ls) + puts ms ≤ 2560 := hwt
  have hdom : ∀ x o, α x = some o → ∃ o', α2 x = some o' := fun x o hx => by
    by_cases e : x = cl'
    · exact ⟨_, e ▸ hcl2⟩
    · exact ⟨o, hk2 x o e (he x o hx)⟩
  unfold gL at hg
  have hrange : ∀ c ∈ ks, hcR ((ls ++ ms).map (·.2)) c.1 c.2.1 ≤ 24 + nR ms := fun c hc => by
    rw [List.map_append, hcR_app]
    have a1 := hcR_nR (ms := ls) (lo := c.1) (hi := c.2.1)
    have a2 := hcR_nR (ms := ms) (lo := c.1) (hi := c.2.1)
    omega
  have hFS : FS Fz now lo hi dp h p' cp' cl' α2 w ks (ls ++ ms) c1' c2'' := by
    refine ⟨hT2, w3, w10, fun q hq => ?_, w1, F3, O2, O3, fun x hx => ⟨?_, hfw x hx⟩, hW2, hdp, h4, ?_, by omega, ?_, by rw [puts_app]; omega, fun c hc => ?_, ?_⟩
    · rcases List.mem_append.mp hq with h' | h'
      · exact w5 q h'
      · exact hls q h'
    · obtain ⟨o9, ho9⟩ := hfd x hx
      exact hdom x o9 ho9
    · rcases hcase with ⟨-, -, -, -, e5, -⟩ | ⟨-, -, -, -, -, -, -, -, e9, -⟩ <;> omega
    · rcases hcase with ⟨-, -, -, -, -, e6, -⟩ | ⟨-, -, -, -, -, -, -, -, -, e10⟩ <;> omega
    · have := hrange c hc
      omega
    · have : hitsR ((ls ++ ms).map (·.2)) ks ≤ ksum (fun _ => 24 + nR ms) ks := ksum_le (fun c hc => hrange c hc)
      have h9 : ∀ l : List (Kid h), ksum (fun _ => 24 + nR ms) l = l.length * (24 + nR ms) := by
        intro l
        induction l with
        | nil => simp [ksum_nil]
        | cons c t iht => rw [ksum_cons, iht, List.length_cons, Nat.succ_mul]; omega
      rw [h9] at this
      have h10 : ks.length * (24 + nR ms) ≤ 8 * (24 + nR ms) := Nat.mul_le_mul_right _ w2
      omega
  have hxs := inc_xs (p := p) (cp := cp) (cl := cl) (c1 := c1) (c2 := c2) (o := o) (ls := ls) w3 w10 hls
  have hXr : Xr (h + 1) (mkN p cp cl o ks ls c1 c2) = xs h ks (ls.map (·.2)) + ksum (fun c : Kid h => Xr h c.2.2) ks := by
    show ksum (xl h ks) ls + _ = _
    rw [xs_ls]
  have hPg : Pg now (h + 1) (mkN p cp cl o ks ls c1 c2) = ((if o = now then (8 * ks.length - 4 * c1) + (96 - 2 * c2) else 104 + 8 * ks.length) + 104 * (max 4 ks.length - 4)) + (39 + 4 * h) * puts ls + ksum (fun c : Kid h => Pg now h c.2.2) ks := rfl
  have hinc : inc (h + 1) (lo, hi, mkN p cp cl o ks ls c1 c2) ms = ksum (incX (h + 1) (lo, hi, mkN p cp cl o ks ls c1 c2)) ms + (39 + 4 * (h + 1)) * puts ms := rfl
  refine ⟨hFS, ⟨O1, wSm.rf, fun x o' hx h1 h2' => hk2 x o' (fun e => ?_) (he x o' hx), hdom, fun x hx => ?_, fun x h1 h2' => ?_, ?_, ?_, fun hg9 => hg9, fun hg9 => hg9⟩, by rw [List.length_append]; omega, by omega, ?_, hn, hkn⟩
  · rcases O1 cl' (by simp) with h' | h'
    · exact h1 (e ▸ h')
    · rw [e, h'] at hx; cases hx
  · have h1' : isPg α1 x := hx.ext he
    have hne : x ≠ cl' := fun e => by
      rcases h1' with ⟨fs, h'⟩ | ⟨fs, h'⟩ <;> (rw [e, hcl1] at h'; cases h')
    rcases h1' with ⟨fs, h'⟩ | ⟨fs, h'⟩
    · exact Or.inl ⟨fs, hk2 x _ hne h'⟩
    · exact Or.inr ⟨fs, hk2 x _ hne h'⟩
  · rw [List.map_append, effs_app]
    rfl
  · rw [puts_app]
    show _ ≤ (ksum (fun c : Kid h => wt h c.2.2) ks + puts ls) + puts ms
    omega
  · rw [hXr, List.map_append, xs_app]
    omega
  · unfold Tht
    rw [hPg, hXr, hinc, puts_app, List.map_append, xs_app, Nat.mul_add]
    refine tk_num (n1 := n1) (c1 := c1) (c2 := c2) (pm := puts ms) (rm := nR ms) w1 w4 hlen hxs ?_ ?_ ⟨hg.1, hg.2.1, hg.2.2.1⟩
    · rw [show 39 + 4 * (h + 1) = (39 + 4 * h) + 4 by omega, Nat.add_mul]
    · rcases hcase with ⟨h1, -, -, -, e5, e6, -, e8⟩ | ⟨h1, -, -, -, -, -, -, e8, e9, e10⟩
      · exact Or.inl ⟨e8, e5, e6, if_pos h1⟩
      · exact Or.inr ⟨e8, e9, e10, if_neg h1⟩
end NT2
