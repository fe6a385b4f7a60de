/-! PURE: the pages that an inner page with many children becomes, all of it -/
set_option maxRecDepth 100000
section NF2
variable {h q : Nat} {lo hi : Int32} {ks : List (Kid h)} {ls : List (Nat × Msg)} {now : Int32} {ns : List (Kid (h + 1))}
theorem pg_num {M c1 c2 : Nat} (h4 : 4 ≤ M) (h1 : 4 ≤ c1) (hc : c1 = 4 ∨ c1 + 2 ≤ 2 * M) (h2 : 8 ≤ c2) (h46 : c2 ≤ 46) : (8 * M - 4 * c1) + (96 - 2 * c2) + 104 * (max 4 M - 4) + (4 * c1 + 2 * c2 - 8) + 328 = 112 * M := by omega
theorem goL_len {lo hi : Int32} {ms : List Msg} : (goL lo hi ms).length ≤ ms.length := by
  unfold goL
  rw [List.length_map]
  exact List.length_filter_le _ _
theorem nforest (hch : chn lo.toInt hi.toInt ks) (hwf : wfK ks) (hls : lsOk lo hi ls) (hL : ls.length ≤ 24) (hq2 : 2 ≤ q) (hq4 : 4 * q ≤ ks.length) (hq8 : ks.length ≤ 8 * q) (hn : nds ks ls q now ns) (hl : ns.length = q) :
    chn lo.toInt hi.toInt ns ∧ wfK ns ∧ (∀ x : Int32, lo ≤ x → x ≤ hi → dnk (den (h + 1)) ns x = effs (ls.map (·.2)) x (dnk (den h) ks x)) ∧ ksum (fun c : Kid (h + 1) => wt (h + 1) c.2.2) ns ≤ ksum (fun c : Kid h => wt h c.2.2) ks + puts ls ∧
    ksum (fun c : Kid (h + 1) => Xr (h + 1) c.2.2) ns + 4 * NC ks q (ls.map (·.2)) q ≤ ksum (fun c : Kid h => Xr h c.2.2) ks + xs h ks (ls.map (·.2)) ∧
    ksum (fun c : Kid (h + 1) => Pg now (h + 1) c.2.2) ns + ksum ndc ns + 328 * q ≤ 112 * ks.length + (39 + 4 * h) * puts ls + ksum (fun c : Kid h => Pg now h c.2.2) ks ∧
    ((∀ c ∈ ks, gd h c.2.2) → ∀ c ∈ ns, gd (h + 1) c.2.2) ∧ (gls ks → gls ns) ∧ (ownF now (h + 1) ns).Perm (ns.flatMap ad3 ++ ownF now h ks) := by
  have hq : 0 < q := by omega
  have hfull : ks.length * q / q = ks.length := Nat.mul_div_cancel _ hq
  have hsz : ∀ j, j < q → 4 ≤ (slc ks q j).length ∧ (slc ks q j).length ≤ 8 := fun j hj => by
    rw [slc_len hq hj]
    have b1 := sl_lo (m := ks.length) (q := q) (j := j) (c := 4) hq (by omega)
    have b2 := sl_hi (m := ks.length) (q := q) (j := j) (c := 8) hq (by omega)
    omega
  have hsub : ∀ j, ∀ c ∈ slc ks q j, c ∈ ks := fun j c hc => List.mem_of_mem_take (List.mem_of_mem_drop hc)
  have hB := bS_all hch hq hq4
  have hat : ∀ j c, ns[j]? = some c → j < q := fun j c hc => by have := (List.getElem?_eq_some_iff.mp hc).1; omega
  have hoks : ∀ m ∈ ls.map (·.2), okM m := fun m hm => by
    obtain ⟨qq, hqq, rfl⟩ := List.mem_map.mp hm
    exact (hls qq hqq).1
  -- one page
  have hone : ∀ j c, ns[j]? = some c → c.1.toInt = bS ks q lo j + 1 ∧ c.2.1.toInt = bS ks q lo (j + 1) ∧ c.1.toInt ≤ c.2.1.toInt ∧ Wf (h + 1) c.2.2 c.1 c.2.1 := by
    intro j c hc
    obtain ⟨e1, e2, p, cp, cl, lj, c1, c2, e3, e4, g1, g2, g3, g4⟩ := hn j c hc
    have hj := hat j c hc
    obtain ⟨s1, s2, s3, s4⟩ := (hB j (by omega)).2.2 hj
    have hs := hsz j hj
    have hlj : lj.length = (goL (loS ks q j) (hiS ks q j) (ls.map (·.2))).length := by rw [← e4, List.length_map]
    have hlj2 := goL_len (lo := loS ks q j) (hi := hiS ks q j) (ms := ls.map (·.2))
    rw [List.length_map] at hlj2
    refine ⟨by rw [e1]; exact s1, by rw [e2]; exact s2, by rw [e1, e2, s1, s2]; exact s3, ?_⟩
    rw [e1, e2, e3]
    refine ⟨by omega, hs.2, by rw [s1, s2]; exact s4, by omega, fun qq hqq => ?_, g1, by omega, g3, by omega, fun c' hc' => hwf c' (hsub j c' hc')⟩
    have : qq.2 ∈ goL (loS ks q j) (hiS ks q j) (ls.map (·.2)) := by rw [← e4]; exact List.mem_map.mpr ⟨qq, hqq, rfl⟩
    unfold goL at this
    obtain ⟨m, hm, e⟩ := List.mem_map.mp this
    obtain ⟨hm1, hm2⟩ := List.mem_filter.mp hm
    obtain ⟨q1, q2, q3⟩ := cut_ok (hoks m hm1) (hit_in.mp hm2) (by rw [i_le, s1, s2]; exact s3)
    rw [← e]
    exact ⟨q1, q2, q3⟩
  have main : ∀ i, i ≤ q → chn lo.toInt (bS ks q lo i) (ns.take i) ∧ (∀ x : Int32, lo ≤ x → x.toInt ≤ bS ks q lo i → dnk (den (h + 1)) (ns.take i) x = effs (ls.map (·.2)) x (dnk (den h) (ks.take (ks.length * i / q)) x)) ∧
      ksum (fun c : Kid (h + 1) => wt (h + 1) c.2.2) (ns.take i) = ksum (fun c : Kid h => wt h c.2.2) (ks.take (ks.length * i / q)) + ksum (fun j => pM (goL (loS ks q j) (hiS ks q j) (ls.map (·.2)))) (List.range i) ∧
      ksum (fun c : Kid (h + 1) => Xr (h + 1) c.2.2) (ns.take i) = ksum (fun c : Kid h => Xr h c.2.2) (ks.take (ks.length * i / q)) + ksum (fun j => xs h (slc ks q j) (goL (loS ks q j) (hiS ks q j) (ls.map (·.2)))) (List.range i) ∧
      ksum (fun c : Kid (h + 1) => Pg now (h + 1) c.2.2) (ns.take i) + ksum ndc (ns.take i) + 328 * i = 112 * (ks.take (ks.length * i / q)).length + (39 + 4 * h) * ksum (fun j => pM (goL (loS ks q j) (hiS ks q j) (ls.map (·.2)))) (List.range i) + ksum (fun c : Kid h => Pg now h c.2.2) (ks.take (ks.length * i / q)) ∧
      (ownF now (h + 1) (ns.take i)).Perm ((ns.take i).flatMap ad3 ++ ownF now h (ks.take (ks.length * i / q))) := by
    intro i
    induction i with
    | zero =>
      intro _
      have e0 : ks.length * 0 / q = 0 := by rw [Nat.mul_zero, Nat.zero_div]
      refine ⟨by rw [List.take_zero]; show lo.toInt = lo.toInt - 1 + 1; omega, fun x h1 h2 => ?_, ?_, ?_, ?_, ?_⟩
      · have h2 : x.toInt ≤ lo.toInt - 1 := h2
        rw [i_le] at h1
        omega
      · rw [e0, List.take_zero, List.take_zero]; rfl
      · rw [e0, List.take_zero, List.take_zero]; rfl
      · rw [e0, List.take_zero, List.take_zero]; rfl
      · rw [e0, List.take_zero, List.take_zero]; exact List.Perm.refl _
    | succ i ih =>
      intro hi'
      obtain ⟨i1, i2, i3, i4, i5, i6⟩ := ih (by omega)
      obtain ⟨c, hc⟩ := at_of (l := ns) (j := i) (by omega)
      obtain ⟨o1, o2, o3, o4⟩ := hone i c hc
      obtain ⟨e1, e2, p, cp, cl, lj, c1, c2, e3, e4, g1, g2, g3, g4⟩ := hn i c hc
      obtain ⟨s1, s2, s3, s4⟩ := (hB i (by omega)).2.2 (by omega)
      obtain ⟨k1, -, -⟩ := hB i (by omega)
      have hs := hsz i (by omega)
      have hsn := take_snoc hc
      rw [hsn, ← slc_cat (R := ks) (q := q) (j := i)]
      have hpl : puts lj = pM (goL (loS ks q i) (hiS ks q i) (ls.map (·.2))) := by rw [puts_ls, e4]
      refine ⟨?_, fun x h1 h2 => ?_, ?_, ?_, ?_, ?_⟩
      · exact chn.app.mpr ⟨_, i1, o1, o3, by show _ = _; rw [o2]⟩
      · by_cases ea : x.toInt ≤ bS ks q lo i
        · rw [dnk_left i1 (by rw [i_le] at h1; exact h1) ea, dnk_left k1 (by rw [i_le] at h1; exact h1) ea]
          exact i2 x h1 ea
        · rw [dnk_right i1 (by omega), dnk_right k1 (by omega), dnk_one (by omega) (by omega), e3]
          show effs (lj.map (·.2)) x (dnk (den h) (slc ks q i) x) = _
          rw [e4, goL_eff (by omega) (by omega)]
      · rw [ksum_app, ksum_app, ksum_cons, ksum_nil, rsum_succ, i3, e3]
        show _ + ((ksum (fun c : Kid h => wt h c.2.2) (slc ks q i) + puts lj) + 0) = _
        rw [hpl]
        omega
      · rw [ksum_app, ksum_app, ksum_cons, ksum_nil, rsum_succ, i4, e3]
        show _ + ((ksum (xl h (slc ks q i)) lj + ksum (fun c : Kid h => Xr h c.2.2) (slc ks q i)) + 0) = _
        rw [xs_ls, e4]
        omega
      · rw [ksum_app, ksum_app, ksum_app, ksum_cons, ksum_nil, ksum_cons, ksum_nil, rsum_succ, List.length_append]
        have hnum := pg_num hs.1 g1 g2 g3 g4
        have a1 : Pg now (h + 1) c.2.2 = (8 * (slc ks q i).length - 4 * c1) + (96 - 2 * c2) + 104 * (max 4 (slc ks q i).length - 4) + (39 + 4 * h) * pM (goL (loS ks q i) (hiS ks q i) (ls.map (·.2))) + ksum (fun c : Kid h => Pg now h c.2.2) (slc ks q i) := by
          rw [e3, ← hpl]
          show ((if now = now then _ else _) + _) + _ + _ = _
          rw [if_pos rfl]
        have a2 : ndc c = 4 * c1 + 2 * c2 - 8 := by unfold ndc; rw [e3]; rfl
        rw [a1, a2, Nat.mul_add (39 + 4 * h)]
        generalize (39 + 4 * h) * ksum (fun j => pM (goL (loS ks q j) (hiS ks q j) (ls.map (·.2)))) (List.range i) = Z1 at *
        generalize (39 + 4 * h) * pM (goL (loS ks q i) (hiS ks q i) (ls.map (·.2))) = Z2 at *
        generalize (8 * (slc ks q i).length - 4 * c1) = Z3 at *
        generalize (96 - 2 * c2) = Z4 at *
        generalize 104 * (max 4 (slc ks q i).length - 4) = Z5 at *
        generalize 4 * c1 + 2 * c2 - 8 = Z6 at *
        clear hsz hB
        omega
      · rw [ownF_app, ownF_cons, List.flatMap_append, ownF_app]
        have a3 : ownT now (h + 1) c.2.2 = ad3 c ++ ownF now h (slc ks q i) := by
          unfold ad3
          rw [e3]
          exact own3
        have a4 : [c].flatMap ad3 = ad3 c := by simp
        rw [a3, a4]
        show (ownF now (h + 1) (ns.take i) ++ ((ad3 c ++ ownF now h (slc ks q i)) ++ [])).Perm _
        rw [List.append_nil]
        refine (List.Perm.append_right _ i6).trans ?_
        rw [List.append_assoc, List.append_assoc]
        refine List.Perm.append_left _ ?_
        rw [← List.append_assoc, ← List.append_assoc]
        exact List.Perm.append_right _ List.perm_append_comm
  obtain ⟨m1, m2, m3, m4, m5, m6⟩ := main q (Nat.le_refl _)
  have hbe := bS_end hch hq hq4
  have hnt : ns.take q = ns := by rw [← hl, List.take_length]
  rw [hnt, hbe] at m1
  rw [hnt, hbe, hfull, List.take_length] at m2
  rw [hnt, hfull, List.take_length] at m3 m4 m5 m6
  have hpp := np_puts hch hq hq4 hls
  have hxx := np_xs hch hwf hq hq4 hls
  rw [← puts_ls] at hpp
  refine ⟨m1, fun c hc => ?_, fun x h1 h2 => m2 x h1 (by rw [i_le] at h2; exact h2), by omega, by omega, ?_, fun hg c hc => ?_, fun hg => ?_, m6⟩
  · obtain ⟨j, hj⟩ := mem_get.mp hc
    exact (hone j c hj).2.2.2
  · rw [m5]
    have := Nat.mul_le_mul_left (39 + 4 * h) hpp
    omega
  · obtain ⟨j, hj⟩ := mem_get.mp hc
    obtain ⟨-, -, p, cp, cl, lj, c1, c2, e3, -⟩ := hn j c hj
    rw [e3]
    exact ⟨(hsz j (hat j c hj)).1, fun c' hc' => hg c' (hsub j c' hc')⟩
  · have hlast : ∀ j, j + 1 < q → ∀ c' ∈ slc ks q j, c' ∈ ks.dropLast := by
      intro j hj c' hc'
      rw [List.dropLast_eq_take]
      have h1 : c' ∈ ks.take (ks.length * (j + 1) / q) := List.mem_of_mem_drop hc'
      have b1 := sl_lo (m := ks.length) (q := q) (j := j + 1) (c := 4) hq (by omega)
      have b3 := sl_top (m := ks.length) (q := q) (j := j + 1 + 1) hq (by omega)
      have h2 : ks.length * (j + 1) / q ≤ ks.length - 1 := by
        have : ks.length * (j + 1) / q + 4 ≤ ks.length := Nat.le_trans b1 b3
        omega
      exact (List.take_subset_take_left _ h2) h1
    have hslast : ∀ j, j < q → ∀ c' ∈ (slc ks q j).dropLast, c' ∈ ks.dropLast := by
      intro j hj c' hc'
      obtain ⟨i, hi'⟩ := mem_get.mp hc'
      rw [List.dropLast_eq_take, List.getElem?_take] at hi'
      split at hi'
      · next hlt =>
        have hll := slc_len (R := ks) (q := q) (j := j) hq hj
        have b3 := sl_top (m := ks.length) (q := q) (j := j + 1) hq (by omega)
        have b1 := sl_lo (m := ks.length) (q := q) (j := j) (c := 4) hq (by omega)
        rw [slc_at (by omega)] at hi'
        refine mem_get.mpr ⟨ks.length * j / q + i, ?_⟩
        rw [List.dropLast_eq_take, List.getElem?_take, if_pos]
        · exact hi'
        · generalize ks.length * j / q = F at *
          generalize ks.length * (j + 1) / q = E at *
          omega
      · cases hi'
    refine ⟨fun c hc => ?_, fun c hc => ?_⟩
    · obtain ⟨j, hj⟩ := mem_get.mp hc
      rw [List.dropLast_eq_take, List.getElem?_take] at hj
      split at hj
      · next hlt =>
        obtain ⟨-, -, p, cp, cl, lj, c1, c2, e3, -⟩ := hn j c hj
        rw [e3]
        exact ⟨(hsz j (hat j c hj)).1, fun c' hc' => hg.1 c' (hlast j (by omega) c' hc')⟩
      · cases hj
    · obtain ⟨j, hj⟩ := mem_get.mp hc
      obtain ⟨-, -, p, cp, cl, lj, c1, c2, e3, -⟩ := hn j c hj
      rw [e3]
      exact ⟨fun c' hc' => hg.1 c' (hslast j (hat j c hj) c' hc'), fun c' hc' => hg.2 c' (hsub j c' hc')⟩
end NF2
