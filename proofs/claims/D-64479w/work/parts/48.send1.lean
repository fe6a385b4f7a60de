/-! Inner.send: the letters parted -/
set_option maxRecDepth 100000
section SN1
variable {g : Cx} {l : Launch} {d : Nat}
/-- go and stay while letters are parted -/
def StN (α2 : AM) (ga sa cg cs n2 : Nat) (αx : AM) (gq sq : List (Nat × Msg)) (cgx csx kx nx cost : Nat) : Prop :=
  αx ga = some (oL (gq.map (·.1)) cgx) ∧ αx sa = some (oL (sq.map (·.1)) csx) ∧ allQ αx gq ∧ allQ αx sq ∧ (∀ x o, α2 x = some o → x ≠ ga → x ≠ sa → αx x = some o) ∧ 8 ≤ cgx ∧ cgx ≤ 8800 ∧ 8 ≤ csx ∧ csx ≤ 8800 ∧ n2 + (17600 - 2 * cgx) + (17600 - 2 * csx) ≤ nx + (17600 - 2 * cg) + (17600 - 2 * cs) + 4 * cost ∧ nx ≤ 4 * kx
theorem StN.addS {α2 αx : AM} {ga sa cg cs n2 cgx csx kx nx cost q' : Nat} {gq sq : List (Nat × Msg)} {m' : Msg} (hS : StN α2 ga sa cg cs n2 αx gq sq cgx csx kx nx cost) (hne : ga ≠ sa) (hq : αx q' = some (oW (mC m'))) (hl : sq.length + 1 ≤ 4400) (hb : (17600 - 2 * cg) + (17600 - 2 * cs) + 4 * cost ≤ n2) :
    aMs g l d kx nx M7_add [.ref sa, .ref q'] αx (fun o α' k' n' => o = .returned none ∧ ∃ cs', StN α2 ga sa cg cs n2 α' gq (sq ++ [(q', m')]) cgx cs' k' n' cost ∧ ∀ x o, αx x = some o → x ≠ sa → α' x = some o) := by
  obtain ⟨h1, h2, h3, h4, h5, h6, h7, h8, h9, h10, h11⟩ := hS
  have hall : allM αx (sq.map (·.1)) := fun x hx => by
    obtain ⟨q, hq, rfl⟩ := List.mem_map.mp hx
    exact ⟨_, h4 q hq⟩
  refine (sp_ladd' h2 hq hall (N := 4400) (by rw [List.length_map]; exact hl) h8 (by omega) (by omega) (by omega)).mono (fun o α' k' n' _ _ hQ => ?_)
  obtain ⟨z1, c', z2, z3⟩ := hQ
  unfold gL at z3
  subst z2
  have hraw : ∀ x m, αx x = some (oW (mC m)) → aset αx sa (oL (sq.map (·.1) ++ [q']) c') x = some (oW (mC m)) := fun x m hx => raw_set h2 oL_ne hx
  refine ⟨z1, c', ⟨(aset_n hne).trans h1, ?_, h3.kept hraw, ?_, fun x o hx g1 g2 => (aset_n g2).trans (h5 x o hx g1 g2), h6, h7, by omega, by omega, by omega, by omega⟩, fun x o hx g2 => (aset_n g2).trans hx⟩
  · rw [List.map_append]
    exact aset_s
  · intro q hq'
    rcases List.mem_append.mp hq' with hq' | hq'
    · exact hraw _ _ (h4 q hq')
    · rw [List.mem_singleton.mp hq']
      exact hraw _ _ hq
theorem StN.addG {α2 αx : AM} {ga sa cg cs n2 cgx csx kx nx cost q' : Nat} {gq sq : List (Nat × Msg)} {m' : Msg} (hS : StN α2 ga sa cg cs n2 αx gq sq cgx csx kx nx cost) (hne : ga ≠ sa) (hq : αx q' = some (oW (mC m'))) (hl : gq.length + 1 ≤ 4400) (hb : (17600 - 2 * cg) + (17600 - 2 * cs) + 4 * cost ≤ n2) :
    aMs g l d kx nx M7_add [.ref ga, .ref q'] αx (fun o α' k' n' => o = .returned none ∧ ∃ cg', StN α2 ga sa cg cs n2 α' (gq ++ [(q', m')]) sq cg' csx k' n' cost ∧ ∀ x o, αx x = some o → x ≠ ga → α' x = some o) := by
  obtain ⟨h1, h2, h3, h4, h5, h6, h7, h8, h9, h10, h11⟩ := hS
  have hall : allM αx (gq.map (·.1)) := fun x hx => by
    obtain ⟨q, hq, rfl⟩ := List.mem_map.mp hx
    exact ⟨_, h3 q hq⟩
  refine (sp_ladd' h1 hq hall (N := 4400) (by rw [List.length_map]; exact hl) h6 (by omega) (by omega) (by omega)).mono (fun o α' k' n' _ _ hQ => ?_)
  obtain ⟨z1, c', z2, z3⟩ := hQ
  unfold gL at z3
  subst z2
  have hraw : ∀ x m, αx x = some (oW (mC m)) → aset αx ga (oL (gq.map (·.1) ++ [q']) c') x = some (oW (mC m)) := fun x m hx => raw_set h1 oL_ne hx
  refine ⟨z1, c', ⟨?_, (aset_n hne.symm).trans h2, ?_, h4.kept hraw, fun x o hx g1 g2 => (aset_n g1).trans (h5 x o hx g1 g2), by omega, by omega, h8, h9, by omega, by omega⟩, fun x o hx g2 => (aset_n g2).trans hx⟩
  · rw [List.map_append]
    exact aset_s
  · intro q hq'
    rcases List.mem_append.mp hq' with hq' | hq'
    · exact hraw _ _ (h3 q hq')
    · rw [List.mem_singleton.mp hq']
      exact hraw _ _ hq
theorem StN.ext {α2 αx αy : AM} {ga sa cg cs n2 cgx csx kx nx cost ky ny cost' : Nat} {gq sq : List (Nat × Msg)} (hS : StN α2 ga sa cg cs n2 αx gq sq cgx csx kx nx cost) (he : ∀ x o, αx x = some o → αy x = some o) (h1 : nx ≤ ny + 4 * (cost' - cost)) (h0 : cost ≤ cost') (h2 : ny ≤ 4 * ky) : StN α2 ga sa cg cs n2 αy gq sq cgx csx ky ny cost' := by
  obtain ⟨q1, q2, q3, q4, q5, q6, q7, q8, q9, q10, q11⟩ := hS
  exact ⟨he _ _ q1, he _ _ q2, fun q hq => he _ _ (q3 q hq), fun q hq => he _ _ (q4 q hq), fun x o hx g1 g2 => he _ _ (q5 x o hx g1 g2), q6, q7, q8, q9, by omega, h2⟩
def mWi_b (m : Msg) (lo hi : Int32) : Bool := !decide (m.2.1 < lo) && !decide (hi < m.2.2.1)
theorem mWi_iff {m : Msg} {lo hi : Int32} : mWi_b m lo hi = true ↔ mWi m lo hi := by
  unfold mWi_b mWi
  simp only [Bool.and_eq_true, Bool.not_eq_true', decide_eq_false_iff_not]
  rw [i_lt, i_lt, i_le, i_le]
  omega
theorem newC_eq {lo hi : Int32} {m : Msg} (hh : hit m lo hi = true) : newC lo hi m = (if mWi_b m lo hi = true then 0 else 1) + (if m.2.1 < lo then 1 else 0) + (if hi < m.2.2.1 then 1 else 0) := by
  unfold newC stP mWi_b
  rw [if_pos hh, if_pos hh]
  by_cases e1 : m.2.1 < lo
  · by_cases e2 : hi < m.2.2.1
    · simp [e1, e2]
    · simp [e1, e2]
  · by_cases e2 : hi < m.2.2.1
    · simp [e1, e2]
    · simp [e1, e2]
theorem lp_send {h p cp cl c1 c2 i ga sa cg cs k2 n2 dp : Nat} {now hi lo tp : Int32} {ks : List (Kid h)} {ls : List (Nat × Msg)} {α2 : AM} {w1 : Nat} {Q : Outcome → Mem → Nat → Nat → Prop}
    (hT : Th α2 (h + 1) (mkN p cp cl now ks ls c1 c2)) (hga : α2 ga = some (oL [] cg)) (hsa : α2 sa = some (oL [] cs)) (hne : ga ≠ sa) (hclg : cl ≠ ga) (hcls : cl ≠ sa) (hcpg : cp ≠ ga) (hcps : cp ≠ sa) (hok : ∀ q ∈ ls, okM q.2) (hlt : lo.toInt ≤ tp.toInt)
    (hkk : ∀ c ∈ ks, ∀ x ∈ allT h c.2.2, x ≠ ga ∧ x ≠ sa)
    (hl1 : ls.length ≤ 4400) (hl2 : (stL lo tp (ls.map (·.2))).length ≤ 4400) (hcg : 8 ≤ cg ∧ cg ≤ 8800) (hcs : 8 ≤ cs ∧ cs ≤ 8800) (hb : (17600 - 2 * cg) + (17600 - 2 * cs) + 4 * newCs lo tp (ls.map (·.2)) ≤ n2) (hkn : n2 ≤ 4 * k2) (hd : 3 ≤ d)
    (hend : ∀ (αF : AM) (μF : Mem) (gq sq : List (Nat × Msg)) (cgF csF kF nF : Nat), Rep αF μF → gq.map (·.2) = goL lo tp (ls.map (·.2)) → sq.map (·.2) = stL lo tp (ls.map (·.2)) → StN α2 ga sa cg cs n2 αF gq sq cgF csF kF nF (newCs lo tp (ls.map (·.2))) →
      bB g l M11_send d Q 167 [(0, .ref p), (1, .int (nI i)), (2, .int now), (3, .int hi), (4, .ref w1), (5, .int (nI dp)), (6, .int lo), (7, .int tp), (8, .ref ga), (9, .ref sa)] [] μF kF nF) :
    ∀ (f j : Nat) (αj : AM) (μj : Mem) (gq sq : List (Nat × Msg)) (cgj csj kj nj : Nat), ls.length - j < f → j ≤ ls.length → Rep αj μj → gq.map (·.2) = goL lo tp ((ls.take j).map (·.2)) → sq.map (·.2) = stL lo tp ((ls.take j).map (·.2)) → StN α2 ga sa cg cs n2 αj gq sq cgj csj kj nj (newCs lo tp ((ls.take j).map (·.2))) →
      bB g l M11_send d Q 43 [(0, .ref p), (1, .int (nI i)), (2, .int now), (3, .int hi), (4, .ref w1), (5, .int (nI dp)), (6, .int lo), (7, .int tp), (8, .ref ga), (9, .ref sa), (10, .int (nI j))] [] μj kj nj := by
  intro f
  induction f with
  | zero => intro j αj μj gq sq cgj csj kj nj h; omega
  | succ f ihf =>
    intro j αj μj gq sq cgj csj kj nj hf hj hRj hgq hsq hS
    have hS0 := hS
    obtain ⟨s1, s2, s3, s4, s5, s6, s7, s8, s9, s10, s11⟩ := hS
    have hp1 : p ≠ ga ∧ p ≠ sa := by
      have := hT.1
      refine ⟨fun e => ?_, fun e => ?_⟩
      · rw [e, hga] at this; cases this
      · rw [e, hsa] at this; cases this
    have hmsgj : ∀ x m, α2 x = some (oW (mC m)) → αj x = some (oW (mC m)) := fun x m hx => s5 x _ hx (fun e => by rw [e, hga] at hx; cases hx) (fun e => by rw [e, hsa] at hx; cases hx)
    have hTj : Th αj (h + 1) (mkN p cp cl now ks ls c1 c2) := by
      refine Th.keptT (h + 1) _ hT (fun x o hx ho => ?_) hmsgj
      have hx' : x ∈ [p, cp, cl] ++ ks.flatMap (fun c => allT h c.2.2) := hx
      have : x ≠ ga ∧ x ≠ sa := by
        rcases List.mem_append.mp hx' with hx' | hx'
        · rcases List.mem_cons.mp hx' with e | hx'
          · rw [e]; exact hp1
          · rcases List.mem_cons.mp hx' with e | hx'
            · rw [e]; exact ⟨hcpg, hcps⟩
            · rw [List.mem_singleton.mp hx']; exact ⟨hclg, hcls⟩
        · obtain ⟨c, hc, hx2⟩ := List.mem_flatMap.mp hx'
          exact hkk c hc x hx2
      exact s5 x o ho this.1 this.2
    obtain ⟨m1, -, ⟨r, rs, m2, m3, e1, hle, hcap, ht⟩, hms, -⟩ := hTj.nodeC hRj
    rw [List.length_map] at m2 hle ht
    have hcap' : c2 ≤ 1000000 := hcap
    refine b_iload dX11_send_43 rfl ?_
    first | refine b_aload_n dX11_send_45 rfl ?_ | refine b_aload_nN dX11_send_45 rfl ?_
    refine b_getf dX11_send_46 f11_15 (by first | assumption | exact mset_s | exact Rep.raw (by assumption) (by assumption) | (refine (mset_n (by first | assumption | exact Ne.symm (by assumption) | exact ne_fr (by assumption) (by assumption) | exact Ne.symm (ne_fr (by assumption) (by assumption)))).trans ?_; first | assumption | exact mset_s | exact Rep.raw (by assumption) (by assumption) | (refine (mset_n (by first | assumption | exact Ne.symm (by assumption) | exact ne_fr (by assumption) (by assumption) | exact Ne.symm (ne_fr (by assumption) (by assumption)))).trans ?_; first | assumption | exact mset_s | exact Rep.raw (by assumption) (by assumption) | (refine (mset_n (by first | assumption | exact Ne.symm (by assumption) | exact ne_fr (by assumption) (by assumption) | exact Ne.symm (ne_fr (by assumption) (by assumption)))).trans ?_; first | assumption | exact mset_s | exact Rep.raw (by assumption) (by assumption) | (refine (mset_n (by first | assumption | exact Ne.symm (by assumption) | exact ne_fr (by assumption) (by assumption) | exact Ne.symm (ne_fr (by assumption) (by assumption)))).trans ?_; first | assumption | exact mset_s | exact Rep.raw (by assumption) (by assumption) | (refine (mset_n (by first | assumption | exact Ne.symm (by assumption) | exact ne_fr (by assumption) (by assumption) | exact Ne.symm (ne_fr (by assumption) (by assumption)))).trans ?_; first | assumption | exact mset_s | exact Rep.raw (by assumption) (by assumption) | (refine (mset_n (by first | assumption | exact Ne.symm (by assumption) | exact ne_fr (by assumption) (by assumption) | exact Ne.symm (ne_fr (by assumption) (by assumption)))).trans ?_; first | assumption | exact mset_s | exact Rep.raw (by assumption) (by assumption) | (refine (mset_n (by first | assumption | exact Ne.symm (by assumption) | exact ne_fr (by assumption) (by assumption) | exact Ne.symm (ne_fr (by assumption) (by assumption)))).trans ?_; assumption)))))))) rfl ?_
    refine b_getf dX11_send_49 f11_48 (by first | assumption | exact mset_s | exact Rep.raw (by assumption) (by assumption) | (refine (mset_n (by first | assumption | exact Ne.symm (by assumption) | exact ne_fr (by assumption) (by assumption) | exact Ne.symm (ne_fr (by assumption) (by assumption)))).trans ?_; first | assumption | exact mset_s | exact Rep.raw (by assumption) (by assumption) | (refine (mset_n (by first | assumption | exact Ne.symm (by assumption) | exact ne_fr (by assumption) (by assumption) | exact Ne.symm (ne_fr (by assumption) (by assumption)))).trans ?_; first | assumption | exact mset_s | exact Rep.raw (by assumption) (by assumption) | (refine (mset_n (by first | assumption | exact Ne.symm (by assumption) | exact ne_fr (by assumption) (by assumption) | exact Ne.symm (ne_fr (by assumption) (by assumption)))).trans ?_; first | assumption | exact mset_s | exact Rep.raw (by assumption) (by assumption) | (refine (mset_n (by first | assumption | exact Ne.symm (by assumption) | exact ne_fr (by assumption) (by assumption) | exact Ne.symm (ne_fr (by assumption) (by assumption)))).trans ?_; first | assumption | exact mset_s | exact Rep.raw (by assumption) (by assumption) | (refine (mset_n (by first | assumption | exact Ne.symm (by assumption) | exact ne_fr (by assumption) (by assumption) | exact Ne.symm (ne_fr (by assumption) (by assumption)))).trans ?_; first | assumption | exact mset_s | exact Rep.raw (by assumption) (by assumption) | (refine (mset_n (by first | assumption | exact Ne.symm (by assumption) | exact ne_fr (by assumption) (by assumption) | exact Ne.symm (ne_fr (by assumption) (by assumption)))).trans ?_; first | assumption | exact mset_s | exact Rep.raw (by assumption) (by assumption) | (refine (mset_n (by first | assumption | exact Ne.symm (by assumption) | exact ne_fr (by assumption) (by assumption) | exact Ne.symm (ne_fr (by assumption) (by assumption)))).trans ?_; assumption)))))))) rfl ?_
    refine b_icmp_ge (tgt := 167) dX11_send_52 (by decide) (fun h52 => ?_) (fun h52 => ?_)
    · rw [nI_leI (by omega) (by omega)] at h52
      have e : j = ls.length := by omega
      subst e
      rw [List.take_length] at hgq hsq hS0
      exact bB.locs rfl (hend αj μj gq sq cgj csj kj nj hRj hgq hsq hS0)
    · rw [nI_leI (by omega) (by omega)] at h52
      obtain ⟨q, hq⟩ := at_of (l := ls) (j := j) (by omega)
      have hqm := List.mem_of_getElem? hq
      have hq1 : rs[j]? = some (some q.1) := by
        have : (rs.take ls.length)[j]? = some (some q.1) := by rw [ht, List.getElem?_map, List.getElem?_map, hq]; rfl
        rwa [List.getElem?_take, if_pos (by omega)] at this
      have hix : ix rs (nI j) = some (some q.1) := by rw [ix_n (by omega)]; exact hq1
      have hmq := hms q hqm
      have hmq' : μj q.1 = some (cO 9 [.int q.2.1, .int q.2.2.1, .int q.2.2.2.1, .long q.2.2.2.2]) := hmq
      have hqa : αj q.1 = some (oW (mC q.2)) := hTj.2.2.2.1 q hqm
      have okq := hok q hqm
      have okq1 := okq.1
      rw [i_le] at okq1
      obtain ⟨gr, grs, mga, -⟩ := hRj.let s1
      obtain ⟨sr, srs, msa, -⟩ := hRj.let s2
      have tsn : (ls.take (j + 1)).map (·.2) = (ls.take j).map (·.2) ++ [q.2] := by rw [take_snoc hq, List.map_append]; rfl
      have hNs : newCs lo tp ((ls.take (j + 1)).map (·.2)) = newCs lo tp ((ls.take j).map (·.2)) + newC lo tp q.2 := by
        rw [tsn]; unfold newCs; rw [ksum_app, ksum_cons, ksum_nil]; omega
      have hNle : newCs lo tp ((ls.take (j + 1)).map (·.2)) ≤ newCs lo tp (ls.map (·.2)) := by
        rw [List.map_take]; exact ksum_take
      have hstl : (stL lo tp ((ls.take (j + 1)).map (·.2))).length ≤ 4400 := by
        refine Nat.le_trans ?_ hl2
        have : ls.map (·.2) = (ls.take (j + 1)).map (·.2) ++ (ls.drop (j + 1)).map (·.2) := by rw [← List.map_append, List.take_append_drop]
        rw [this]
        unfold stL
        rw [List.flatMap_append, List.length_append]
        omega
      have hsql : sq.length = (stL lo tp ((ls.take j).map (·.2))).length := by rw [← hsq, List.length_map]
      have hgql : gq.length ≤ j := by
        have h1 : gq.length = (goL lo tp ((ls.take j).map (·.2))).length := by rw [← hgq, List.length_map]
        rw [h1]
        unfold goL
        rw [List.length_map]
        refine Nat.le_trans (List.length_filter_le _ _) ?_
        rw [List.length_map, List.length_take]
        omega
      rw [tsn, stL_snoc, List.length_append] at hstl
      generalize hC0 : newCs lo tp ((ls.take j).map (·.2)) = C0 at *
      first | refine b_aload_n dX11_send_55 rfl ?_ | refine b_aload_nN dX11_send_55 rfl ?_
      refine b_getf dX11_send_56 f11_15 (by first | assumption | exact mset_s | exact Rep.raw (by assumption) (by assumption) | (refine (mset_n (by first | assumption | exact Ne.symm (by assumption) | exact ne_fr (by assumption) (by assumption) | exact Ne.symm (ne_fr (by assumption) (by assumption)))).trans ?_; first | assumption | exact mset_s | exact Rep.raw (by assumption) (by assumption) | (refine (mset_n (by first | assumption | exact Ne.symm (by assumption) | exact ne_fr (by assumption) (by assumption) | exact Ne.symm (ne_fr (by assumption) (by assumption)))).trans ?_; first | assumption | exact mset_s | exact Rep.raw (by assumption) (by assumption) | (refine (mset_n (by first | assumption | exact Ne.symm (by assumption) | exact ne_fr (by assumption) (by assumption) | exact Ne.symm (ne_fr (by assumption) (by assumption)))).trans ?_; first | assumption | exact mset_s | exact Rep.raw (by assumption) (by assumption) | (refine (mset_n (by first | assumption | exact Ne.symm (by assumption) | exact ne_fr (by assumption) (by assumption) | exact Ne.symm (ne_fr (by assumption) (by assumption)))).trans ?_; first | assumption | exact mset_s | exact Rep.raw (by assumption) (by assumption) | (refine (mset_n (by first | assumption | exact Ne.symm (by assumption) | exact ne_fr (by assumption) (by assumption) | exact Ne.symm (ne_fr (by assumption) (by assumption)))).trans ?_; first | assumption | exact mset_s | exact Rep.raw (by assumption) (by assumption) | (refine (mset_n (by first | assumption | exact Ne.symm (by assumption) | exact ne_fr (by assumption) (by assumption) | exact Ne.symm (ne_fr (by assumption) (by assumption)))).trans ?_; first | assumption | exact mset_s | exact Rep.raw (by assumption) (by assumption) | (refine (mset_n (by first | assumption | exact Ne.symm (by assumption) | exact ne_fr (by assumption) (by assumption) | exact Ne.symm (ne_fr (by assumption) (by assumption)))).trans ?_; assumption)))))))) rfl ?_
      refine b_getf dX11_send_59 f11_51 (by first | assumption | exact mset_s | exact Rep.raw (by assumption) (by assumption) | (refine (mset_n (by first | assumption | exact Ne.symm (by assumption) | exact ne_fr (by assumption) (by assumption) | exact Ne.symm (ne_fr (by assumption) (by assumption)))).trans ?_; first | assumption | exact mset_s | exact Rep.raw (by assumption) (by assumption) | (refine (mset_n (by first | assumption | exact Ne.symm (by assumption) | exact ne_fr (by assumption) (by assumption) | exact Ne.symm (ne_fr (by assumption) (by assumption)))).trans ?_; first | assumption | exact mset_s | exact Rep.raw (by assumption) (by assumption) | (refine (mset_n (by first | assumption | exact Ne.symm (by assumption) | exact ne_fr (by assumption) (by assumption) | exact Ne.symm (ne_fr (by assumption) (by assumption)))).trans ?_; first | assumption | exact mset_s | exact Rep.raw (by assumption) (by assumption) | (refine (mset_n (by first | assumption | exact Ne.symm (by assumption) | exact ne_fr (by assumption) (by assumption) | exact Ne.symm (ne_fr (by assumption) (by assumption)))).trans ?_; first | assumption | exact mset_s | exact Rep.raw (by assumption) (by assumption) | (refine (mset_n (by first | assumption | exact Ne.symm (by assumption) | exact ne_fr (by assumption) (by assumption) | exact Ne.symm (ne_fr (by assumption) (by assumption)))).trans ?_; first | assumption | exact mset_s | exact Rep.raw (by assumption) (by assumption) | (refine (mset_n (by first | assumption | exact Ne.symm (by assumption) | exact ne_fr (by assumption) (by assumption) | exact Ne.symm (ne_fr (by assumption) (by assumption)))).trans ?_; first | assumption | exact mset_s | exact Rep.raw (by assumption) (by assumption) | (refine (mset_n (by first | assumption | exact Ne.symm (by assumption) | exact ne_fr (by assumption) (by assumption) | exact Ne.symm (ne_fr (by assumption) (by assumption)))).trans ?_; assumption)))))))) rfl ?_
      refine b_iload dX11_send_62 rfl ?_
      refine b_aald dX11_send_64 (by first | assumption | exact mset_s | exact Rep.raw (by assumption) (by assumption) | (refine (mset_n (by first | assumption | exact Ne.symm (by assumption) | exact ne_fr (by assumption) (by assumption) | exact Ne.symm (ne_fr (by assumption) (by assumption)))).trans ?_; first | assumption | exact mset_s | exact Rep.raw (by assumption) (by assumption) | (refine (mset_n (by first | assumption | exact Ne.symm (by assumption) | exact ne_fr (by assumption) (by assumption) | exact Ne.symm (ne_fr (by assumption) (by assumption)))).trans ?_; first | assumption | exact mset_s | exact Rep.raw (by assumption) (by assumption) | (refine (mset_n (by first | assumption | exact Ne.symm (by assumption) | exact ne_fr (by assumption) (by assumption) | exact Ne.symm (ne_fr (by assumption) (by assumption)))).trans ?_; first | assumption | exact mset_s | exact Rep.raw (by assumption) (by assumption) | (refine (mset_n (by first | assumption | exact Ne.symm (by assumption) | exact ne_fr (by assumption) (by assumption) | exact Ne.symm (ne_fr (by assumption) (by assumption)))).trans ?_; first | assumption | exact mset_s | exact Rep.raw (by assumption) (by assumption) | (refine (mset_n (by first | assumption | exact Ne.symm (by assumption) | exact ne_fr (by assumption) (by assumption) | exact Ne.symm (ne_fr (by assumption) (by assumption)))).trans ?_; first | assumption | exact mset_s | exact Rep.raw (by assumption) (by assumption) | (refine (mset_n (by first | assumption | exact Ne.symm (by assumption) | exact ne_fr (by assumption) (by assumption) | exact Ne.symm (ne_fr (by assumption) (by assumption)))).trans ?_; first | assumption | exact mset_s | exact Rep.raw (by assumption) (by assumption) | (refine (mset_n (by first | assumption | exact Ne.symm (by assumption) | exact ne_fr (by assumption) (by assumption) | exact Ne.symm (ne_fr (by assumption) (by assumption)))).trans ?_; assumption)))))))) (by decide) (by first | assumption | exact ix_D (by first | assumption | omega) (by first | assumption | omega)) ?_
      first | refine b_astore dX11_send_65 (by decide) ?_ | refine b_astoreN dX11_send_65 (by decide) ?_
      first | refine b_aload dX11_send_67 rfl ?_ | refine b_aloadN dX11_send_67 rfl ?_
      refine b_iload dX11_send_69 rfl ?_
      refine b_iload dX11_send_71 rfl ?_
      by_cases hin : mIn q.2 lo tp
      · have hh : hit q.2 lo tp = true := hit_in.mpr hin
        have hh' := hit_iff.mp hh
        have hnC := newC_eq hh
        have hstP : stP lo tp q.2 = (if q.2.2.1 < lo then [leP lo q.2] else []) ++ (if tp < q.2.2.2.1 then [riP tp q.2] else []) := by
          unfold stP; rw [if_pos hh]
        have ihn := ihf (j + 1)
        rw [hNs] at ihn
        rw [tsn, stL_snoc, goL_snoc, if_pos hh, hstP] at ihn
        rw [hstP] at hstl
        refine b_callA (As := [.ref q.1, .int lo, .int tp]) (rest := []) s11_55 dX11_send_73 rfl rfl (fun ci hci => by cases hci; exact ⟨_, _, _, rfl, by first | assumption | exact mset_s | exact Rep.raw (by assumption) (by assumption) | (refine (mset_n (by first | assumption | exact Ne.symm (by assumption) | exact ne_fr (by assumption) (by assumption) | exact Ne.symm (ne_fr (by assumption) (by assumption)))).trans ?_; first | assumption | exact mset_s | exact Rep.raw (by assumption) (by assumption) | (refine (mset_n (by first | assumption | exact Ne.symm (by assumption) | exact ne_fr (by assumption) (by assumption) | exact Ne.symm (ne_fr (by assumption) (by assumption)))).trans ?_; first | assumption | exact mset_s | exact Rep.raw (by assumption) (by assumption) | (refine (mset_n (by first | assumption | exact Ne.symm (by assumption) | exact ne_fr (by assumption) (by assumption) | exact Ne.symm (ne_fr (by assumption) (by assumption)))).trans ?_; first | assumption | exact mset_s | exact Rep.raw (by assumption) (by assumption) | (refine (mset_n (by first | assumption | exact Ne.symm (by assumption) | exact ne_fr (by assumption) (by assumption) | exact Ne.symm (ne_fr (by assumption) (by assumption)))).trans ?_; first | assumption | exact mset_s | exact Rep.raw (by assumption) (by assumption) | (refine (mset_n (by first | assumption | exact Ne.symm (by assumption) | exact ne_fr (by assumption) (by assumption) | exact Ne.symm (ne_fr (by assumption) (by assumption)))).trans ?_; first | assumption | exact mset_s | exact Rep.raw (by assumption) (by assumption) | (refine (mset_n (by first | assumption | exact Ne.symm (by assumption) | exact ne_fr (by assumption) (by assumption) | exact Ne.symm (ne_fr (by assumption) (by assumption)))).trans ?_; first | assumption | exact mset_s | exact Rep.raw (by assumption) (by assumption) | (refine (mset_n (by first | assumption | exact Ne.symm (by assumption) | exact ne_fr (by assumption) (by assumption) | exact Ne.symm (ne_fr (by assumption) (by assumption)))).trans ?_; assumption)))))))⟩) ((sp_isIn (d := d - 1) hmq).1 hin) (by omega) (Nat.le_of_ble_eq_true rfl) ?_
        refine b_if_ne (tgt := 89) dX11_send_76 (by decide) (fun _ => ?_) (fun h => absurd h (by decide))
        first | refine b_aload dX11_send_89 rfl ?_ | refine b_aloadN dX11_send_89 rfl ?_
        first | refine b_aload dX11_send_91 rfl ?_ | refine b_aloadN dX11_send_91 rfl ?_
        refine b_iload dX11_send_93 rfl ?_
        refine b_iload dX11_send_95 rfl ?_
        have hbud : ¬ mWi q.2 lo tp → 1 ≤ kj ∧ 4 ≤ nj := fun hw => by
          have : mWi_b q.2 lo tp ≠ true := fun h => hw (mWi_iff.mp h)
          rw [if_neg this] at hnC
          omega
        refine b_call (As := [.ref q.1, .int lo, .int tp]) (rest := [.ref ga]) s11_61 dX11_send_97 rfl rfl (fun ci hci => by cases hci; exact ⟨_, _, _, rfl, by first | assumption | exact mset_s | exact Rep.raw (by assumption) (by assumption) | (refine (mset_n (by first | assumption | exact Ne.symm (by assumption) | exact ne_fr (by assumption) (by assumption) | exact Ne.symm (ne_fr (by assumption) (by assumption)))).trans ?_; first | assumption | exact mset_s | exact Rep.raw (by assumption) (by assumption) | (refine (mset_n (by first | assumption | exact Ne.symm (by assumption) | exact ne_fr (by assumption) (by assumption) | exact Ne.symm (ne_fr (by assumption) (by assumption)))).trans ?_; first | assumption | exact mset_s | exact Rep.raw (by assumption) (by assumption) | (refine (mset_n (by first | assumption | exact Ne.symm (by assumption) | exact ne_fr (by assumption) (by assumption) | exact Ne.symm (ne_fr (by assumption) (by assumption)))).trans ?_; first | assumption | exact mset_s | exact Rep.raw (by assumption) (by assumption) | (refine (mset_n (by first | assumption | exact Ne.symm (by assumption) | exact ne_fr (by assumption) (by assumption) | exact Ne.symm (ne_fr (by assumption) (by assumption)))).trans ?_; first | assumption | exact mset_s | exact Rep.raw (by assumption) (by assumption) | (refine (mset_n (by first | assumption | exact Ne.symm (by assumption) | exact ne_fr (by assumption) (by assumption) | exact Ne.symm (ne_fr (by assumption) (by assumption)))).trans ?_; first | assumption | exact mset_s | exact Rep.raw (by assumption) (by assumption) | (refine (mset_n (by first | assumption | exact Ne.symm (by assumption) | exact ne_fr (by assumption) (by assumption) | exact Ne.symm (ne_fr (by assumption) (by assumption)))).trans ?_; first | assumption | exact mset_s | exact Rep.raw (by assumption) (by assumption) | (refine (mset_n (by first | assumption | exact Ne.symm (by assumption) | exact ne_fr (by assumption) (by assumption) | exact Ne.symm (ne_fr (by assumption) (by assumption)))).trans ?_; assumption)))))))⟩) (sp_cut (d := d - 1) hqa (by omega) hbud _ hRj) (by first | (rintro _ _ _ _ ⟨h, -⟩; exact ⟨_, h⟩) | (rintro _ _ _ _ ⟨_, h, -⟩; exact ⟨_, h⟩) | (rintro _ _ _ _ ⟨_, _, h, -⟩; exact ⟨_, h⟩) | (rintro _ _ _ _ ⟨_, _, _, h, -⟩; exact ⟨_, h⟩) | (rintro _ _ _ _ ⟨_, _, _, _, h, -⟩; exact ⟨_, h⟩)) (by omega) (Nat.le_of_ble_eq_true rfl) (fun v5 μ5 k5 n5 hk5 hn5 hQ5 => ?_)
        obtain ⟨α5, hR5, q5, z1, z2, z3, z4⟩ := hQ5
        cases z1
        have hS5 : StN α2 ga sa cg cs n2 α5 gq sq cgj csj k5 n5 (C0 + (if mWi_b q.2 lo tp = true then 0 else 1)) := by
          rcases z4 with ⟨hw, -, e2, e3⟩ | ⟨hw, -, -, e2, e3⟩
          · rw [if_pos (mWi_iff.mpr hw)]
            exact hS0.ext z3 (by omega) (by omega) (by omega)
          · rw [if_neg (fun h => hw (mWi_iff.mp h))]
            exact hS0.ext z3 (by omega) (by omega) (by omega)
        generalize hC1 : C0 + (if mWi_b q.2 lo tp = true then 0 else 1) = C1 at *
        obtain ⟨gr5, grs5, mga5, -⟩ := hR5.let hS5.1
        refine b_call (As := [.ref ga, .ref q5]) (rest := []) s11_100 dX11_send_100 rfl rfl (fun ci hci => by cases hci; exact ⟨_, _, _, rfl, by first | assumption | exact mset_s | exact Rep.raw (by assumption) (by assumption) | (refine (mset_n (by first | assumption | exact Ne.symm (by assumption) | exact ne_fr (by assumption) (by assumption) | exact Ne.symm (ne_fr (by assumption) (by assumption)))).trans ?_; first | assumption | exact mset_s | exact Rep.raw (by assumption) (by assumption) | (refine (mset_n (by first | assumption | exact Ne.symm (by assumption) | exact ne_fr (by assumption) (by assumption) | exact Ne.symm (ne_fr (by assumption) (by assumption)))).trans ?_; first | assumption | exact mset_s | exact Rep.raw (by assumption) (by assumption) | (refine (mset_n (by first | assumption | exact Ne.symm (by assumption) | exact ne_fr (by assumption) (by assumption) | exact Ne.symm (ne_fr (by assumption) (by assumption)))).trans ?_; first | assumption | exact mset_s | exact Rep.raw (by assumption) (by assumption) | (refine (mset_n (by first | assumption | exact Ne.symm (by assumption) | exact ne_fr (by assumption) (by assumption) | exact Ne.symm (ne_fr (by assumption) (by assumption)))).trans ?_; first | assumption | exact mset_s | exact Rep.raw (by assumption) (by assumption) | (refine (mset_n (by first | assumption | exact Ne.symm (by assumption) | exact ne_fr (by assumption) (by assumption) | exact Ne.symm (ne_fr (by assumption) (by assumption)))).trans ?_; first | assumption | exact mset_s | exact Rep.raw (by assumption) (by assumption) | (refine (mset_n (by first | assumption | exact Ne.symm (by assumption) | exact ne_fr (by assumption) (by assumption) | exact Ne.symm (ne_fr (by assumption) (by assumption)))).trans ?_; first | assumption | exact mset_s | exact Rep.raw (by assumption) (by assumption) | (refine (mset_n (by first | assumption | exact Ne.symm (by assumption) | exact ne_fr (by assumption) (by assumption) | exact Ne.symm (ne_fr (by assumption) (by assumption)))).trans ?_; assumption)))))))⟩) (hS5.addG (d := d - 1) hne z2 (by omega) (by omega) _ hR5) (by first | (rintro _ _ _ _ ⟨h, -⟩; exact ⟨_, h⟩) | (rintro _ _ _ _ ⟨_, h, -⟩; exact ⟨_, h⟩) | (rintro _ _ _ _ ⟨_, _, h, -⟩; exact ⟨_, h⟩) | (rintro _ _ _ _ ⟨_, _, _, h, -⟩; exact ⟨_, h⟩) | (rintro _ _ _ _ ⟨_, _, _, _, h, -⟩; exact ⟨_, h⟩)) (by omega) (Nat.le_of_ble_eq_true rfl) (fun v6 μ6 k6 n6 hk6 hn6 hQ6 => ?_)
        obtain ⟨α6, hR6, y1, cg6, hS6, y3⟩ := hQ6
        cases y1
        have hqa6 : α6 q.1 = some (oW (mC q.2)) := y3 _ _ (z3 _ _ hqa) (fun e => by have h9 := z3 _ _ hqa; rw [e, hS5.1] at h9; cases h9)
        have hmq6 : μ6 q.1 = some (cO 9 [.int q.2.1, .int q.2.2.1, .int q.2.2.2.1, .long q.2.2.2.2]) := hR6.raw hqa6
        -- to the right
        have rgt : ∀ (α7 : AM) (μ7 : Mem) (sq7 : List (Nat × Msg)) (cs7 k7 n7 : Nat), Rep α7 μ7 → α7 q.1 = some (oW (mC q.2)) → sq7.map (·.2) = stL lo tp ((ls.take j).map (·.2)) ++ (if q.2.2.1 < lo then [leP lo q.2] else []) → StN α2 ga sa cg cs n2 α7 (gq ++ [(q5, mcut q.2 lo tp)]) sq7 cg6 cs7 k7 n7 (C1 + (if q.2.2.1 < lo then 1 else 0)) →
            bB g l M11_send d Q 132 [(0, .ref p), (1, .int (nI i)), (2, .int now), (3, .int hi), (4, .ref w1), (5, .int (nI dp)), (6, .int lo), (7, .int tp), (8, .ref ga), (9, .ref sa), (10, .int (nI j)), (11, .ref q.1)] [] μ7 k7 n7 := by
          intro α7 μ7 sq7 cs7 k7 n7 hR7 hqa7 hsq7 hS7
          have hmq7 : μ7 q.1 = some (cO 9 [.int q.2.1, .int q.2.2.1, .int q.2.2.2.1, .long q.2.2.2.2]) := hR7.raw hqa7
          have hsq7l : sq7.length = (stL lo tp ((ls.take j).map (·.2))).length + (if q.2.2.1 < lo then [leP lo q.2] else []).length := by rw [← List.length_append, ← hsq7, List.length_map]
          have hg9 : (gq ++ [(q5, mcut q.2 lo tp)]).map (·.2) = goL lo tp ((ls.take j).map (·.2)) ++ [goP lo tp q.2] := by rw [List.map_append, hgq]; rfl
          first | refine b_aload dX11_send_132 rfl ?_ | refine b_aloadN dX11_send_132 rfl ?_
          refine b_getf dX11_send_134 f11_153 (by first | assumption | exact mset_s | exact Rep.raw (by assumption) (by assumption) | (refine (mset_n (by first | assumption | exact Ne.symm (by assumption) | exact ne_fr (by assumption) (by assumption) | exact Ne.symm (ne_fr (by assumption) (by assumption)))).trans ?_; first | assumption | exact mset_s | exact Rep.raw (by assumption) (by assumption) | (refine (mset_n (by first | assumption | exact Ne.symm (by assumption) | exact ne_fr (by assumption) (by assumption) | exact Ne.symm (ne_fr (by assumption) (by assumption)))).trans ?_; first | assumption | exact mset_s | exact Rep.raw (by assumption) (by assumption) | (refine (mset_n (by first | assumption | exact Ne.symm (by assumption) | exact ne_fr (by assumption) (by assumption) | exact Ne.symm (ne_fr (by assumption) (by assumption)))).trans ?_; first | assumption | exact mset_s | exact Rep.raw (by assumption) (by assumption) | (refine (mset_n (by first | assumption | exact Ne.symm (by assumption) | exact ne_fr (by assumption) (by assumption) | exact Ne.symm (ne_fr (by assumption) (by assumption)))).trans ?_; first | assumption | exact mset_s | exact Rep.raw (by assumption) (by assumption) | (refine (mset_n (by first | assumption | exact Ne.symm (by assumption) | exact ne_fr (by assumption) (by assumption) | exact Ne.symm (ne_fr (by assumption) (by assumption)))).trans ?_; first | assumption | exact mset_s | exact Rep.raw (by assumption) (by assumption) | (refine (mset_n (by first | assumption | exact Ne.symm (by assumption) | exact ne_fr (by assumption) (by assumption) | exact Ne.symm (ne_fr (by assumption) (by assumption)))).trans ?_; first | assumption | exact mset_s | exact Rep.raw (by assumption) (by assumption) | (refine (mset_n (by first | assumption | exact Ne.symm (by assumption) | exact ne_fr (by assumption) (by assumption) | exact Ne.symm (ne_fr (by assumption) (by assumption)))).trans ?_; assumption)))))))) rfl ?_
          refine b_iload dX11_send_137 rfl ?_
          refine b_icmp_le (tgt := 161) dX11_send_139 (by decide) (fun h139 => ?_) (fun h139 => ?_)
          · have hnr : ¬ tp < q.2.2.2.1 := by rw [i_le] at h139; rw [i_lt]; omega
            rw [if_neg hnr] at ihn hnC
            first | refine b_iincN dX11_send_161 rfl (by decide) ?_ | refine b_iinc1 dX11_send_161 rfl (by decide) ?_
            refine b_goto (tgt := 43) dX11_send_164 (by decide) ?_
            refine bB.locs rfl (ihn α7 μ7 (gq ++ [(q5, mcut q.2 lo tp)]) sq7 cg6 cs7 k7 n7 (by omega) (by omega) hR7 hg9 (by rw [hsq7, List.append_nil]) ?_)
            rw [show C0 + newC lo tp q.2 = C1 + (if q.2.2.1 < lo then 1 else 0) by omega]
            exact hS7
          · have hr : tp < q.2.2.2.1 := by rw [i_le] at h139; rw [i_lt]; omega
            rw [if_pos hr] at ihn hnC hstl
            have hr' := hr
            rw [i_lt] at hr'
            obtain ⟨sr7, srs7, msa7, -⟩ := hR7.let hS7.2.1
            have hnw : ¬ mWi q.2 (tp + 1) q.2.2.2.1 := fun hw => by
              have := hw.1
              rw [i_le, i_next hr'] at this
              omega
            have hSx := hS7
            obtain ⟨-, -, -, -, -, -, -, -, -, b10, b11⟩ := hSx
            first | refine b_aload dX11_send_142 rfl ?_ | refine b_aloadN dX11_send_142 rfl ?_
            first | refine b_aload dX11_send_144 rfl ?_ | refine b_aloadN dX11_send_144 rfl ?_
            refine b_iload dX11_send_146 rfl ?_
            refine b_iconst (v := 1) dX11_send_148 (by decide) ?_
            refine b_iadd dX11_send_149 ?_
            first | refine b_aload dX11_send_150 rfl ?_ | refine b_aloadN dX11_send_150 rfl ?_
            refine b_getf dX11_send_152 f11_153 (by first | assumption | exact mset_s | exact Rep.raw (by assumption) (by assumption) | (refine (mset_n (by first | assumption | exact Ne.symm (by assumption) | exact ne_fr (by assumption) (by assumption) | exact Ne.symm (ne_fr (by assumption) (by assumption)))).trans ?_; first | assumption | exact mset_s | exact Rep.raw (by assumption) (by assumption) | (refine (mset_n (by first | assumption | exact Ne.symm (by assumption) | exact ne_fr (by assumption) (by assumption) | exact Ne.symm (ne_fr (by assumption) (by assumption)))).trans ?_; first | assumption | exact mset_s | exact Rep.raw (by assumption) (by assumption) | (refine (mset_n (by first | assumption | exact Ne.symm (by assumption) | exact ne_fr (by assumption) (by assumption) | exact Ne.symm (ne_fr (by assumption) (by assumption)))).trans ?_; first | assumption | exact mset_s | exact Rep.raw (by assumption) (by assumption) | (refine (mset_n (by first | assumption | exact Ne.symm (by assumption) | exact ne_fr (by assumption) (by assumption) | exact Ne.symm (ne_fr (by assumption) (by assumption)))).trans ?_; first | assumption | exact mset_s | exact Rep.raw (by assumption) (by assumption) | (refine (mset_n (by first | assumption | exact Ne.symm (by assumption) | exact ne_fr (by assumption) (by assumption) | exact Ne.symm (ne_fr (by assumption) (by assumption)))).trans ?_; first | assumption | exact mset_s | exact Rep.raw (by assumption) (by assumption) | (refine (mset_n (by first | assumption | exact Ne.symm (by assumption) | exact ne_fr (by assumption) (by assumption) | exact Ne.symm (ne_fr (by assumption) (by assumption)))).trans ?_; first | assumption | exact mset_s | exact Rep.raw (by assumption) (by assumption) | (refine (mset_n (by first | assumption | exact Ne.symm (by assumption) | exact ne_fr (by assumption) (by assumption) | exact Ne.symm (ne_fr (by assumption) (by assumption)))).trans ?_; assumption)))))))) rfl ?_
            refine b_call (As := [.ref q.1, .int (tp + 1), .int q.2.2.2.1]) (rest := [.ref sa]) s11_61 dX11_send_155 rfl rfl (fun ci hci => by cases hci; exact ⟨_, _, _, rfl, by first | assumption | exact mset_s | exact Rep.raw (by assumption) (by assumption) | (refine (mset_n (by first | assumption | exact Ne.symm (by assumption) | exact ne_fr (by assumption) (by assumption) | exact Ne.symm (ne_fr (by assumption) (by assumption)))).trans ?_; first | assumption | exact mset_s | exact Rep.raw (by assumption) (by assumption) | (refine (mset_n (by first | assumption | exact Ne.symm (by assumption) | exact ne_fr (by assumption) (by assumption) | exact Ne.symm (ne_fr (by assumption) (by assumption)))).trans ?_; first | assumption | exact mset_s | exact Rep.raw (by assumption) (by assumption) | (refine (mset_n (by first | assumption | exact Ne.symm (by assumption) | exact ne_fr (by assumption) (by assumption) | exact Ne.symm (ne_fr (by assumption) (by assumption)))).trans ?_; first | assumption | exact mset_s | exact Rep.raw (by assumption) (by assumption) | (refine (mset_n (by first | assumption | exact Ne.symm (by assumption) | exact ne_fr (by assumption) (by assumption) | exact Ne.symm (ne_fr (by assumption) (by assumption)))).trans ?_; first | assumption | exact mset_s | exact Rep.raw (by assumption) (by assumption) | (refine (mset_n (by first | assumption | exact Ne.symm (by assumption) | exact ne_fr (by assumption) (by assumption) | exact Ne.symm (ne_fr (by assumption) (by assumption)))).trans ?_; first | assumption | exact mset_s | exact Rep.raw (by assumption) (by assumption) | (refine (mset_n (by first | assumption | exact Ne.symm (by assumption) | exact ne_fr (by assumption) (by assumption) | exact Ne.symm (ne_fr (by assumption) (by assumption)))).trans ?_; first | assumption | exact mset_s | exact Rep.raw (by assumption) (by assumption) | (refine (mset_n (by first | assumption | exact Ne.symm (by assumption) | exact ne_fr (by assumption) (by assumption) | exact Ne.symm (ne_fr (by assumption) (by assumption)))).trans ?_; assumption)))))))⟩) (sp_cut (d := d - 1) hqa7 (by omega) (fun _ => by omega) _ hR7) (by first | (rintro _ _ _ _ ⟨h, -⟩; exact ⟨_, h⟩) | (rintro _ _ _ _ ⟨_, h, -⟩; exact ⟨_, h⟩) | (rintro _ _ _ _ ⟨_, _, h, -⟩; exact ⟨_, h⟩) | (rintro _ _ _ _ ⟨_, _, _, h, -⟩; exact ⟨_, h⟩) | (rintro _ _ _ _ ⟨_, _, _, _, h, -⟩; exact ⟨_, h⟩)) (by omega) (Nat.le_of_ble_eq_true rfl) (fun v8 μ8 k8 n8 hk8 hn8 hQ8 => ?_)
            obtain ⟨α8, hR8, q8, x1, x2, x3, x4⟩ := hQ8
            cases x1
            have hS8 : StN α2 ga sa cg cs n2 α8 (gq ++ [(q5, mcut q.2 lo tp)]) sq7 cg6 cs7 k8 n8 (C1 + (if q.2.2.1 < lo then 1 else 0) + 1) := by
              rcases x4 with ⟨hw, -⟩ | ⟨hw, -, -, e2, e3⟩
              · exact absurd hw hnw
              · exact hS7.ext x3 (by omega) (by omega) (by omega)
            obtain ⟨sr8, srs8, msa8, -⟩ := hR8.let hS8.2.1
            simp only [List.length_append, List.length_singleton] at hstl
            refine b_call (As := [.ref sa, .ref q8]) (rest := []) s11_100 dX11_send_158 rfl rfl (fun ci hci => by cases hci; exact ⟨_, _, _, rfl, by first | assumption | exact mset_s | exact Rep.raw (by assumption) (by assumption) | (refine (mset_n (by first | assumption | exact Ne.symm (by assumption) | exact ne_fr (by assumption) (by assumption) | exact Ne.symm (ne_fr (by assumption) (by assumption)))).trans ?_; first | assumption | exact mset_s | exact Rep.raw (by assumption) (by assumption) | (refine (mset_n (by first | assumption | exact Ne.symm (by assumption) | exact ne_fr (by assumption) (by assumption) | exact Ne.symm (ne_fr (by assumption) (by assumption)))).trans ?_; first | assumption | exact mset_s | exact Rep.raw (by assumption) (by assumption) | (refine (mset_n (by first | assumption | exact Ne.symm (by assumption) | exact ne_fr (by assumption) (by assumption) | exact Ne.symm (ne_fr (by assumption) (by assumption)))).trans ?_; first | assumption | exact mset_s | exact Rep.raw (by assumption) (by assumption) | (refine (mset_n (by first | assumption | exact Ne.symm (by assumption) | exact ne_fr (by assumption) (by assumption) | exact Ne.symm (ne_fr (by assumption) (by assumption)))).trans ?_; first | assumption | exact mset_s | exact Rep.raw (by assumption) (by assumption) | (refine (mset_n (by first | assumption | exact Ne.symm (by assumption) | exact ne_fr (by assumption) (by assumption) | exact Ne.symm (ne_fr (by assumption) (by assumption)))).trans ?_; first | assumption | exact mset_s | exact Rep.raw (by assumption) (by assumption) | (refine (mset_n (by first | assumption | exact Ne.symm (by assumption) | exact ne_fr (by assumption) (by assumption) | exact Ne.symm (ne_fr (by assumption) (by assumption)))).trans ?_; first | assumption | exact mset_s | exact Rep.raw (by assumption) (by assumption) | (refine (mset_n (by first | assumption | exact Ne.symm (by assumption) | exact ne_fr (by assumption) (by assumption) | exact Ne.symm (ne_fr (by assumption) (by assumption)))).trans ?_; assumption)))))))⟩) (hS8.addS (d := d - 1) hne x2 (by omega) (by omega) _ hR8) (by first | (rintro _ _ _ _ ⟨h, -⟩; exact ⟨_, h⟩) | (rintro _ _ _ _ ⟨_, h, -⟩; exact ⟨_, h⟩) | (rintro _ _ _ _ ⟨_, _, h, -⟩; exact ⟨_, h⟩) | (rintro _ _ _ _ ⟨_, _, _, h, -⟩; exact ⟨_, h⟩) | (rintro _ _ _ _ ⟨_, _, _, _, h, -⟩; exact ⟨_, h⟩)) (by omega) (Nat.le_of_ble_eq_true rfl) (fun v9 μ9 k9 n9 hk9 hn9 hQ9 => ?_)
            obtain ⟨α9, hR9, v1, cs9, hS9, v3⟩ := hQ9
            cases v1
            first | refine b_iincN dX11_send_161 rfl (by decide) ?_ | refine b_iinc1 dX11_send_161 rfl (by decide) ?_
            refine b_goto (tgt := 43) dX11_send_164 (by decide) ?_
            refine bB.locs rfl (ihn α9 μ9 (gq ++ [(q5, mcut q.2 lo tp)]) (sq7 ++ [(q8, mcut q.2 (tp + 1) q.2.2.2.1)]) cg6 cs9 k9 n9 (by omega) (by omega) hR9 hg9 ?_ ?_)
            · rw [List.map_append, hsq7, ← List.append_assoc]
              rfl
            · rw [show C0 + newC lo tp q.2 = C1 + (if q.2.2.1 < lo then 1 else 0) + 1 by omega]
              exact hS9
        first | refine b_aload dX11_send_103 rfl ?_ | refine b_aloadN dX11_send_103 rfl ?_
        refine b_getf dX11_send_105 f11_150 (by first | assumption | exact mset_s | exact Rep.raw (by assumption) (by assumption) | (refine (mset_n (by first | assumption | exact Ne.symm (by assumption) | exact ne_fr (by assumption) (by assumption) | exact Ne.symm (ne_fr (by assumption) (by assumption)))).trans ?_; first | assumption | exact mset_s | exact Rep.raw (by assumption) (by assumption) | (refine (mset_n (by first | assumption | exact Ne.symm (by assumption) | exact ne_fr (by assumption) (by assumption) | exact Ne.symm (ne_fr (by assumption) (by assumption)))).trans ?_; first | assumption | exact mset_s | exact Rep.raw (by assumption) (by assumption) | (refine (mset_n (by first | assumption | exact Ne.symm (by assumption) | exact ne_fr (by assumption) (by assumption) | exact Ne.symm (ne_fr (by assumption) (by assumption)))).trans ?_; first | assumption | exact mset_s | exact Rep.raw (by assumption) (by assumption) | (refine (mset_n (by first | assumption | exact Ne.symm (by assumption) | exact ne_fr (by assumption) (by assumption) | exact Ne.symm (ne_fr (by assumption) (by assumption)))).trans ?_; first | assumption | exact mset_s | exact Rep.raw (by assumption) (by assumption) | (refine (mset_n (by first | assumption | exact Ne.symm (by assumption) | exact ne_fr (by assumption) (by assumption) | exact Ne.symm (ne_fr (by assumption) (by assumption)))).trans ?_; first | assumption | exact mset_s | exact Rep.raw (by assumption) (by assumption) | (refine (mset_n (by first | assumption | exact Ne.symm (by assumption) | exact ne_fr (by assumption) (by assumption) | exact Ne.symm (ne_fr (by assumption) (by assumption)))).trans ?_; first | assumption | exact mset_s | exact Rep.raw (by assumption) (by assumption) | (refine (mset_n (by first | assumption | exact Ne.symm (by assumption) | exact ne_fr (by assumption) (by assumption) | exact Ne.symm (ne_fr (by assumption) (by assumption)))).trans ?_; assumption)))))))) rfl ?_
        refine b_iload dX11_send_108 rfl ?_
        refine b_icmp_ge (tgt := 132) dX11_send_110 (by decide) (fun h110 => ?_) (fun h110 => ?_)
        · have hnl : ¬ q.2.2.1 < lo := by rw [i_le] at h110; rw [i_lt]; omega
          refine bB.locs rfl (rgt α6 μ6 sq csj k6 n6 hR6 hqa6 (by rw [if_neg hnl, List.append_nil]; exact hsq) ?_)
          rw [if_neg hnl]
          exact hS6
        · have hl : q.2.2.1 < lo := by rw [i_le] at h110; rw [i_lt]; omega
          have hl' := hl
          rw [i_lt] at hl'
          have hnw : ¬ mWi q.2 q.2.2.1 (lo - 1) := fun hw => by
            have := hw.2
            rw [i_le, i_pred hl'] at this
            omega
          have hlen9 : (stL lo tp ((ls.take j).map (·.2))).length + 1 ≤ 4400 := by
            rw [if_pos hl] at hstl
            simp only [List.length_append, List.length_singleton] at hstl
            omega
          have hcst : C1 + 1 ≤ newCs lo tp (ls.map (·.2)) := by
            rw [if_pos hl] at hnC
            omega
          have hSx := hS6
          obtain ⟨-, -, -, -, -, -, -, -, -, b10, b11⟩ := hSx
          first | refine b_aload dX11_send_113 rfl ?_ | refine b_aloadN dX11_send_113 rfl ?_
          first | refine b_aload dX11_send_115 rfl ?_ | refine b_aloadN dX11_send_115 rfl ?_
          first | refine b_aload dX11_send_117 rfl ?_ | refine b_aloadN dX11_send_117 rfl ?_
          refine b_getf dX11_send_119 f11_150 (by first | assumption | exact mset_s | exact Rep.raw (by assumption) (by assumption) | (refine (mset_n (by first | assumption | exact Ne.symm (by assumption) | exact ne_fr (by assumption) (by assumption) | exact Ne.symm (ne_fr (by assumption) (by assumption)))).trans ?_; first | assumption | exact mset_s | exact Rep.raw (by assumption) (by assumption) | (refine (mset_n (by first | assumption | exact Ne.symm (by assumption) | exact ne_fr (by assumption) (by assumption) | exact Ne.symm (ne_fr (by assumption) (by assumption)))).trans ?_; first | assumption | exact mset_s | exact Rep.raw (by assumption) (by assumption) | (refine (mset_n (by first | assumption | exact Ne.symm (by assumption) | exact ne_fr (by assumption) (by assumption) | exact Ne.symm (ne_fr (by assumption) (by assumption)))).trans ?_; first | assumption | exact mset_s | exact Rep.raw (by assumption) (by assumption) | (refine (mset_n (by first | assumption | exact Ne.symm (by assumption) | exact ne_fr (by assumption) (by assumption) | exact Ne.symm (ne_fr (by assumption) (by assumption)))).trans ?_; first | assumption | exact mset_s | exact Rep.raw (by assumption) (by assumption) | (refine (mset_n (by first | assumption | exact Ne.symm (by assumption) | exact ne_fr (by assumption) (by assumption) | exact Ne.symm (ne_fr (by assumption) (by assumption)))).trans ?_; first | assumption | exact mset_s | exact Rep.raw (by assumption) (by assumption) | (refine (mset_n (by first | assumption | exact Ne.symm (by assumption) | exact ne_fr (by assumption) (by assumption) | exact Ne.symm (ne_fr (by assumption) (by assumption)))).trans ?_; first | assumption | exact mset_s | exact Rep.raw (by assumption) (by assumption) | (refine (mset_n (by first | assumption | exact Ne.symm (by assumption) | exact ne_fr (by assumption) (by assumption) | exact Ne.symm (ne_fr (by assumption) (by assumption)))).trans ?_; assumption)))))))) rfl ?_
          refine b_iload dX11_send_122 rfl ?_
          refine b_iconst (v := 1) dX11_send_124 (by decide) ?_
          refine b_isub dX11_send_125 ?_
          refine b_call (As := [.ref q.1, .int q.2.2.1, .int (lo - 1)]) (rest := [.ref sa]) s11_61 dX11_send_126 rfl rfl (fun ci hci => by cases hci; exact ⟨_, _, _, rfl, by first | assumption | exact mset_s | exact Rep.raw (by assumption) (by assumption) | (refine (mset_n (by first | assumption | exact Ne.symm (by assumption) | exact ne_fr (by assumption) (by assumption) | exact Ne.symm (ne_fr (by assumption) (by assumption)))).trans ?_; first | assumption | exact mset_s | exact Rep.raw (by assumption) (by assumption) | (refine (mset_n (by first | assumption | exact Ne.symm (by assumption) | exact ne_fr (by assumption) (by assumption) | exact Ne.symm (ne_fr (by assumption) (by assumption)))).trans ?_; first | assumption | exact mset_s | exact Rep.raw (by assumption) (by assumption) | (refine (mset_n (by first | assumption | exact Ne.symm (by assumption) | exact ne_fr (by assumption) (by assumption) | exact Ne.symm (ne_fr (by assumption) (by assumption)))).trans ?_; first | assumption | exact mset_s | exact Rep.raw (by assumption) (by assumption) | (refine (mset_n (by first | assumption | exact Ne.symm (by assumption) | exact ne_fr (by assumption) (by assumption) | exact Ne.symm (ne_fr (by assumption) (by assumption)))).trans ?_; first | assumption | exact mset_s | exact Rep.raw (by assumption) (by assumption) | (refine (mset_n (by first | assumption | exact Ne.symm (by assumption) | exact ne_fr (by assumption) (by assumption) | exact Ne.symm (ne_fr (by assumption) (by assumption)))).trans ?_; first | assumption | exact mset_s | exact Rep.raw (by assumption) (by assumption) | (refine (mset_n (by first | assumption | exact Ne.symm (by assumption) | exact ne_fr (by assumption) (by assumption) | exact Ne.symm (ne_fr (by assumption) (by assumption)))).trans ?_; first | assumption | exact mset_s | exact Rep.raw (by assumption) (by assumption) | (refine (mset_n (by first | assumption | exact Ne.symm (by assumption) | exact ne_fr (by assumption) (by assumption) | exact Ne.symm (ne_fr (by assumption) (by assumption)))).trans ?_; assumption)))))))⟩) (sp_cut (d := d - 1) hqa6 (by omega) (fun _ => by omega) _ hR6) (by first | (rintro _ _ _ _ ⟨h, -⟩; exact ⟨_, h⟩) | (rintro _ _ _ _ ⟨_, h, -⟩; exact ⟨_, h⟩) | (rintro _ _ _ _ ⟨_, _, h, -⟩; exact ⟨_, h⟩) | (rintro _ _ _ _ ⟨_, _, _, h, -⟩; exact ⟨_, h⟩) | (rintro _ _ _ _ ⟨_, _, _, _, h, -⟩; exact ⟨_, h⟩)) (by omega) (Nat.le_of_ble_eq_true rfl) (fun v8 μ8 k8 n8 hk8 hn8 hQ8 => ?_)
          obtain ⟨α8, hR8, q8, x1, x2, x3, x4⟩ := hQ8
          cases x1
          have hS8 : StN α2 ga sa cg cs n2 α8 (gq ++ [(q5, mcut q.2 lo tp)]) sq cg6 csj k8 n8 (C1 + 1) := by
            rcases x4 with ⟨hw, -⟩ | ⟨hw, -, -, e2, e3⟩
            · exact absurd hw hnw
            · exact hS6.ext x3 (by omega) (by omega) (by omega)
          obtain ⟨sr8, srs8, msa8, -⟩ := hR8.let hS8.2.1
          refine b_call (As := [.ref sa, .ref q8]) (rest := []) s11_100 dX11_send_129 rfl rfl (fun ci hci => by cases hci; exact ⟨_, _, _, rfl, by first | assumption | exact mset_s | exact Rep.raw (by assumption) (by assumption) | (refine (mset_n (by first | assumption | exact Ne.symm (by assumption) | exact ne_fr (by assumption) (by assumption) | exact Ne.symm (ne_fr (by assumption) (by assumption)))).trans ?_; first | assumption | exact mset_s | exact Rep.raw (by assumption) (by assumption) | (refine (mset_n (by first | assumption | exact Ne.symm (by assumption) | exact ne_fr (by assumption) (by assumption) | exact Ne.symm (ne_fr (by assumption) (by assumption)))).trans ?_; first | assumption | exact mset_s | exact Rep.raw (by assumption) (by assumption) | (refine (mset_n (by first | assumption | exact Ne.symm (by assumption) | exact ne_fr (by assumption) (by assumption) | exact Ne.symm (ne_fr (by assumption) (by assumption)))).trans ?_; first | assumption | exact mset_s | exact Rep.raw (by assumption) (by assumption) | (refine (mset_n (by first | assumption | exact Ne.symm (by assumption) | exact ne_fr (by assumption) (by assumption) | exact Ne.symm (ne_fr (by assumption) (by assumption)))).trans ?_; first | assumption | exact mset_s | exact Rep.raw (by assumption) (by assumption) | (refine (mset_n (by first | assumption | exact Ne.symm (by assumption) | exact ne_fr (by assumption) (by assumption) | exact Ne.symm (ne_fr (by assumption) (by assumption)))).trans ?_; first | assumption | exact mset_s | exact Rep.raw (by assumption) (by assumption) | (refine (mset_n (by first | assumption | exact Ne.symm (by assumption) | exact ne_fr (by assumption) (by assumption) | exact Ne.symm (ne_fr (by assumption) (by assumption)))).trans ?_; first | assumption | exact mset_s | exact Rep.raw (by assumption) (by assumption) | (refine (mset_n (by first | assumption | exact Ne.symm (by assumption) | exact ne_fr (by assumption) (by assumption) | exact Ne.symm (ne_fr (by assumption) (by assumption)))).trans ?_; assumption)))))))⟩) (hS8.addS (d := d - 1) hne x2 (by omega) (by omega) _ hR8) (by first | (rintro _ _ _ _ ⟨h, -⟩; exact ⟨_, h⟩) | (rintro _ _ _ _ ⟨_, h, -⟩; exact ⟨_, h⟩) | (rintro _ _ _ _ ⟨_, _, h, -⟩; exact ⟨_, h⟩) | (rintro _ _ _ _ ⟨_, _, _, h, -⟩; exact ⟨_, h⟩) | (rintro _ _ _ _ ⟨_, _, _, _, h, -⟩; exact ⟨_, h⟩)) (by omega) (Nat.le_of_ble_eq_true rfl) (fun v9 μ9 k9 n9 hk9 hn9 hQ9 => ?_)
          obtain ⟨α9, hR9, v1, cs9, hS9, v3⟩ := hQ9
          cases v1
          refine bB.locs rfl (rgt α9 μ9 (sq ++ [(q8, mcut q.2 q.2.2.1 (lo - 1))]) cs9 k9 n9 hR9 (v3 _ _ (x3 _ _ hqa6) (fun e => by have h9 := x3 _ _ hqa6; rw [e, hS8.2.1] at h9; cases h9)) ?_ ?_)
          · rw [if_pos hl, List.map_append, hsq]
            rfl
          · rw [if_pos hl]
            exact hS9
      · have hh : ¬ hit q.2 lo tp = true := fun h => hin (hit_in.mp h)
        have hstP : stP lo tp q.2 = [q.2] := by unfold stP; rw [if_neg hh]
        have hn0 : newC lo tp q.2 = 0 := by unfold newC; rw [if_neg hh]
        rw [hstP] at hstl
        simp only [List.length_singleton] at hstl
        refine b_callA (As := [.ref q.1, .int lo, .int tp]) (rest := []) s11_55 dX11_send_73 rfl rfl (fun ci hci => by cases hci; exact ⟨_, _, _, rfl, by first | assumption | exact mset_s | exact Rep.raw (by assumption) (by assumption) | (refine (mset_n (by first | assumption | exact Ne.symm (by assumption) | exact ne_fr (by assumption) (by assumption) | exact Ne.symm (ne_fr (by assumption) (by assumption)))).trans ?_; first | assumption | exact mset_s | exact Rep.raw (by assumption) (by assumption) | (refine (mset_n (by first | assumption | exact Ne.symm (by assumption) | exact ne_fr (by assumption) (by assumption) | exact Ne.symm (ne_fr (by assumption) (by assumption)))).trans ?_; first | assumption | exact mset_s | exact Rep.raw (by assumption) (by assumption) | (refine (mset_n (by first | assumption | exact Ne.symm (by assumption) | exact ne_fr (by assumption) (by assumption) | exact Ne.symm (ne_fr (by assumption) (by assumption)))).trans ?_; first | assumption | exact mset_s | exact Rep.raw (by assumption) (by assumption) | (refine (mset_n (by first | assumption | exact Ne.symm (by assumption) | exact ne_fr (by assumption) (by assumption) | exact Ne.symm (ne_fr (by assumption) (by assumption)))).trans ?_; first | assumption | exact mset_s | exact Rep.raw (by assumption) (by assumption) | (refine (mset_n (by first | assumption | exact Ne.symm (by assumption) | exact ne_fr (by assumption) (by assumption) | exact Ne.symm (ne_fr (by assumption) (by assumption)))).trans ?_; first | assumption | exact mset_s | exact Rep.raw (by assumption) (by assumption) | (refine (mset_n (by first | assumption | exact Ne.symm (by assumption) | exact ne_fr (by assumption) (by assumption) | exact Ne.symm (ne_fr (by assumption) (by assumption)))).trans ?_; first | assumption | exact mset_s | exact Rep.raw (by assumption) (by assumption) | (refine (mset_n (by first | assumption | exact Ne.symm (by assumption) | exact ne_fr (by assumption) (by assumption) | exact Ne.symm (ne_fr (by assumption) (by assumption)))).trans ?_; assumption)))))))⟩) ((sp_isIn (d := d - 1) hmq).2 hin) (by omega) (Nat.le_of_ble_eq_true rfl) ?_
        refine b_if_ne (tgt := 89) dX11_send_76 (by decide) (fun h => absurd rfl h) (fun _ => ?_)
        first | refine b_aload dX11_send_79 rfl ?_ | refine b_aloadN dX11_send_79 rfl ?_
        first | refine b_aload dX11_send_81 rfl ?_ | refine b_aloadN dX11_send_81 rfl ?_
        refine b_call (As := [.ref sa, .ref q.1]) (rest := []) s11_100 dX11_send_83 rfl rfl (fun ci hci => by cases hci; exact ⟨_, _, _, rfl, by first | assumption | exact mset_s | exact Rep.raw (by assumption) (by assumption) | (refine (mset_n (by first | assumption | exact Ne.symm (by assumption) | exact ne_fr (by assumption) (by assumption) | exact Ne.symm (ne_fr (by assumption) (by assumption)))).trans ?_; first | assumption | exact mset_s | exact Rep.raw (by assumption) (by assumption) | (refine (mset_n (by first | assumption | exact Ne.symm (by assumption) | exact ne_fr (by assumption) (by assumption) | exact Ne.symm (ne_fr (by assumption) (by assumption)))).trans ?_; first | assumption | exact mset_s | exact Rep.raw (by assumption) (by assumption) | (refine (mset_n (by first | assumption | exact Ne.symm (by assumption) | exact ne_fr (by assumption) (by assumption) | exact Ne.symm (ne_fr (by assumption) (by assumption)))).trans ?_; first | assumption | exact mset_s | exact Rep.raw (by assumption) (by assumption) | (refine (mset_n (by first | assumption | exact Ne.symm (by assumption) | exact ne_fr (by assumption) (by assumption) | exact Ne.symm (ne_fr (by assumption) (by assumption)))).trans ?_; first | assumption | exact mset_s | exact Rep.raw (by assumption) (by assumption) | (refine (mset_n (by first | assumption | exact Ne.symm (by assumption) | exact ne_fr (by assumption) (by assumption) | exact Ne.symm (ne_fr (by assumption) (by assumption)))).trans ?_; first | assumption | exact mset_s | exact Rep.raw (by assumption) (by assumption) | (refine (mset_n (by first | assumption | exact Ne.symm (by assumption) | exact ne_fr (by assumption) (by assumption) | exact Ne.symm (ne_fr (by assumption) (by assumption)))).trans ?_; first | assumption | exact mset_s | exact Rep.raw (by assumption) (by assumption) | (refine (mset_n (by first | assumption | exact Ne.symm (by assumption) | exact ne_fr (by assumption) (by assumption) | exact Ne.symm (ne_fr (by assumption) (by assumption)))).trans ?_; assumption)))))))⟩) (hS0.addS (d := d - 1) hne hqa (by omega) (by omega) _ hRj) (by first | (rintro _ _ _ _ ⟨h, -⟩; exact ⟨_, h⟩) | (rintro _ _ _ _ ⟨_, h, -⟩; exact ⟨_, h⟩) | (rintro _ _ _ _ ⟨_, _, h, -⟩; exact ⟨_, h⟩) | (rintro _ _ _ _ ⟨_, _, _, h, -⟩; exact ⟨_, h⟩) | (rintro _ _ _ _ ⟨_, _, _, _, h, -⟩; exact ⟨_, h⟩)) (by omega) (Nat.le_of_ble_eq_true rfl) (fun v9 μ9 k9 n9 hk9 hn9 hQ9 => ?_)
        obtain ⟨α9, hR9, v1, cs9, hS9, v3⟩ := hQ9
        cases v1
        refine b_goto (tgt := 161) dX11_send_86 (by decide) ?_
        first | refine b_iincN dX11_send_161 rfl (by decide) ?_ | refine b_iinc1 dX11_send_161 rfl (by decide) ?_
        refine b_goto (tgt := 43) dX11_send_164 (by decide) ?_
        refine bB.locs rfl (ihf (j + 1) α9 μ9 gq (sq ++ [(q.1, q.2)]) cgj cs9 k9 n9 (by omega) (by omega) hR9 ?_ ?_ ?_)
        · rw [tsn, goL_snoc, if_neg hh, List.append_nil]
          exact hgq
        · rw [tsn, stL_snoc, hstP, List.map_append, hsq]
          rfl
        · rw [hNs, hn0]
          exact hS9
end SN1
