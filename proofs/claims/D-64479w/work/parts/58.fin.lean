/-! the end of take and settle: from a page's state to the pages that it is then -/
set_option maxRecDepth 100000
/-- from the start of a take or settle to the page's state now -/
def SB (α : AM) (w : WS) (now lo hi : Int32) (dp h : Nat) (t0 : PT (h + 1)) (f : Int32 → Option Int64) (wB xB p cp cl : Nat) (αb : AM) (wb : WS) (ks : List (Kid h)) (ls : List (Nat × Msg)) : Prop :=
  (∀ x ∈ [p, cp, cl] ++ ownF now h ks, x ∈ ownT now (h + 1) t0 ∨ α x = none) ∧ wSm α w wb not0 dp ∧ (∀ x o, α x = some o → x ∉ ownT now (h + 1) t0 → ¬ wFp w dp x → αb x = some o) ∧ (∀ x o, α x = some o → ∃ o', αb x = some o') ∧ (∀ x, isPg α x → isPg αb x) ∧
  (∀ x : Int32, lo ≤ x → x ≤ hi → effs (ls.map (·.2)) x (dnk (den h) ks x) = f x) ∧ ksum (fun c : Kid h => wt h c.2.2) ks + puts ls ≤ wB ∧ ksum (fun c : Kid h => Xr h c.2.2) ks + xs h ks (ls.map (·.2)) ≤ xB ∧ (gd (h + 1) t0 → 4 ≤ ks.length ∧ ∀ c ∈ ks, gd h c.2.2) ∧ (gl (h + 1) t0 → gls ks)
section FIN
variable {α αb α4 α5 : AM} {w wb wb' : WS} {now lo hi : Int32} {dp h : Nat} {t0 : PT (h + 1)} {f : Int32 → Option Int64} {wB xB p cp cl c1 c2 : Nat} {ks ks' : List (Kid h)} {ls ls' : List (Nat × Msg)} {Fz : Nat → Prop} {αb' : AM}
theorem SB.evo (hS : SB α w now lo hi dp h t0 f wB xB p cp cl αb wb ks ls) (hE : Evo now lo hi dp h cp cl αb wb ks ls αb' wb' ks' ls') : SB α w now lo hi dp h t0 f wB xB p cp cl αb' wb' ks' ls' := by
  obtain ⟨s1, s2, s3, s4, s5, s6, s7, s8, s9, s10⟩ := hS
  obtain ⟨e1, e2, e3, e4, e5, e6, e7, e8, e9, e10, e11⟩ := hE
  have hnone : ∀ x, αb x = none → α x = none := fun x hx => by
    cases hy : α x with
    | none => rfl
    | some o =>
      obtain ⟨o', ho'⟩ := s4 x o hy
      rw [hx] at ho'; cases ho'
  refine ⟨fun x hx => ?_, s2.tr e8 s4, fun x o hx h1 h2 => ?_, fun x o hx => ?_, fun x hx => e11 x (s5 x hx), fun x h1 h2 => (e1 x h1 h2).trans (s6 x h1 h2), Nat.le_trans e2 s7, Nat.le_trans e3 s8, fun hg => ⟨Nat.le_trans (s9 hg).1 e6, e4 (s9 hg).2⟩, fun hg => e5 (s10 hg)⟩
  · rcases List.mem_append.mp hx with hx | hx
    · exact s1 x (List.mem_append_left _ hx)
    · rcases e7 x hx with h' | h'
      · exact s1 x (List.mem_append_right _ h')
      · exact Or.inr (hnone x h')
  · have hno : x ∉ [p, cp, cl] ++ ownF now h ks := fun hx9 => by
      rcases s1 x hx9 with h' | h'
      · exact h1 h'
      · rw [hx] at h'; cases h'
    refine e9 x o (s3 x o hx h1 h2) (fun e => hno (by rw [e]; simp)) (fun e => hno (by rw [e]; simp)) (fun h' => hno (List.mem_append_right _ h')) (fun hf => ?_)
    rcases s2.fp hf with h' | h'
    · exact h2 h'
    · rw [hx] at h'; cases h'
  · obtain ⟨o', ho'⟩ := s4 x o hx
    exact e10 x o' ho'
theorem fp_put {ca c5 x : Nat} (hx : wFp (wput wb 3 dp (ca, c5)) dp x) : wFp wb dp x ∨ x = ca := by
  rcases hx with hx | ⟨kd, j, c9, hk, hj, e⟩
  · exact Or.inl (Or.inl hx)
  · by_cases e2 : kd = 3 ∧ j = dp
    · obtain ⟨rfl, rfl⟩ := e2
      rw [wput_s] at e
      cases e
      exact Or.inr rfl
    · rw [wput_n e2] at e
      exact Or.inl (Or.inr ⟨kd, j, c9, hk, hj, e⟩)
/-- what made leaves of all the rest -/
theorem made_keep {kb nb ca cc k4 n4 : Nat} (hW : WK αb wb dp) (hg : gotW αb wb dp 3 dp kb nb ca cc α4 k4 n4) : α4 ca = some (oP [] cc) ∧ (∀ x o, αb x = some o → ¬ wFp wb dp x → α4 x = some o ∧ x ≠ ca) ∧ (∀ x o, αb x = some o → ∃ o', α4 x = some o') ∧ (∀ x, isPg αb x → isPg α4 x ∧ x ≠ ca) ∧ (∀ x m, αb x = some (oW (mC m)) → α4 x = some (oW (mC m)) ∧ x ≠ ca) ∧ ((∃ c0, wb.2.2 3 dp = some (ca, c0)) ∨ (wb.2.2 3 dp = none ∧ αb ca = none)) := by
  have hk : ∀ x o, αb x = some o → ¬ wFp wb dp x → α4 x = some o ∧ x ≠ ca := fun x o hx hf => hg.keep (by decide) (Nat.le_refl _) hx hf
  refine ⟨hg.1, hk, hg.dom (by decide), fun x hx => ?_, fun x m hx => hk x _ hx (fun hf => ?_), ?_⟩
  · rcases hx with ⟨fs, h'⟩ | ⟨fs, h'⟩
    · obtain ⟨q1, q2⟩ := hk x _ h' (hW.pg (Or.inl ⟨fs, h'⟩))
      exact ⟨Or.inl ⟨fs, q1⟩, q2⟩
    · obtain ⟨q1, q2⟩ := hk x _ h' (hW.pg (Or.inr ⟨fs, h'⟩))
      exact ⟨Or.inr ⟨fs, q1⟩, q2⟩
  · obtain ⟨o, ho, hne⟩ := hW.dom hf
    rw [hx] at ho
    exact hne m (Option.some.inj ho).symm
  · rcases hg.2.2.2.1 with h' | h'
    · exact Or.inl ⟨_, h'⟩
    · exact Or.inr h'
theorem fin_1 {kb nb ca cc k4 n4 c5 : Nat} (hF : FS Fz now lo hi dp h p cp cl αb wb ks ls c1 c2) (hS : SB α w now lo hi dp h t0 f wB xB p cp cl αb wb ks ls) (hlh : lo.toInt ≤ hi.toInt) (h8 : ks.length ≤ 8) (hL : ls.length ≤ 24) (hg : gotW αb wb dp 3 dp kb nb ca cc α4 k4 n4) (h5 : α5 = aset α4 ca (oP [(p, lo)] c5)) (hc4 : 4 ≤ c5) (hc8 : c5 ≤ 800) :
    Rst α Fz now lo hi w dp (h + 1) t0 f wB xB α5 (wput wb 3 dp (ca, c5)) ca c5 [(lo, hi, mkN p cp cl now ks ls c1 c2)] := by
  obtain ⟨hT, hch, hwf, hls, hk1, hinF, hnd, hown, hFz, hW, hdp, b1, b2, b3, b4, -⟩ := hF
  obtain ⟨s1, s2, s3, s4, s5, s6, s7, s8, s9, s10⟩ := hS
  obtain ⟨q1, q2, q3, q4, q5, q6⟩ := made_keep hW hg
  have hk5 : ∀ x o, α4 x = some o → x ≠ ca → α5 x = some o := fun x o hx hne => by rw [h5]; exact (aset_n hne).trans hx
  have hca5 : α5 ca = some (oP [(p, lo)] c5) := by rw [h5]; exact aset_s
  have hallo : ∀ x ∈ allT (h + 1) (mkN p cp cl now ks ls c1 c2), ¬ wFp wb dp x := fun x hx => by
    have hx' : x ∈ [p, cp, cl] ++ ks.flatMap (fun c => allT h c.2.2) := hx
    rcases List.mem_append.mp hx' with hx' | hx'
    · exact (hown x (List.mem_append_left _ hx')).2
    · obtain ⟨c', hc', hx2⟩ := List.mem_flatMap.mp hx'
      rcases allT_or h c'.2.2 x (hinF c' hc') hx2 with h1 | h1
      · exact (hown x (List.mem_append_right _ (List.mem_flatMap.mpr ⟨c', hc', h1⟩))).2
      · exact (hFz x h1).2
  have hT5 : Th α5 (h + 1) (mkN p cp cl now ks ls c1 c2) := Th.keptT _ _ hT (fun x o hx ho => by
    obtain ⟨z1, z2⟩ := q2 x o ho (hallo x hx)
    exact hk5 x o z1 z2) (fun x m hx => by
    obtain ⟨z1, z2⟩ := q5 x m hx
    exact hk5 x _ z1 z2)
  have hW5 : WK α5 (wput wb 3 dp (ca, c5)) dp := by
    have := hg.2.1.upd (α' := α5) (kd := 3) (j := dp) (a := ca) (c := cc) (c' := c5) (by decide) wput_s ⟨_, hca5⟩ hc4 hc8 (fun x o hx ho => hk5 x o ho hx)
    rw [wput2] at this
    exact this
  have hof : ownF now (h + 1) [(lo, hi, mkN p cp cl now ks ls c1 c2)] = [p, cp, cl] ++ ownF now h ks := by
    show ownT now (h + 1) (mkN p cp cl now ks ls c1 c2) ++ [] = _
    rw [own3, List.append_nil]
  have hownd : ∀ x ∈ [p, cp, cl] ++ ownF now h ks, ∃ o, αb x = some o := fun x hx => by
    have hx9 : x ∈ ownT now (h + 1) (mkN p cp cl now ks ls c1 c2) := by rw [own3]; exact hx
    obtain ⟨o, ho, -⟩ := Th.all_at _ _ hT x (ownT_all _ _ x hx9)
    exact ⟨o, ho⟩
  refine ⟨wput_s, hca5, Nat.le_refl 1, ⟨rfl, hlh, rfl⟩, fun c hc => ?_, fun c hc => ?_, fun c hc => ?_, by rw [hof]; exact hnd, fun x hx => s1 x (by rw [hof] at hx; exact hx), fun x hx hf => ?_, fun x h1 h2 => ?_, ?_, fun hg9 c hc => ?_, fun hg9 => ⟨fun c hc => (by cases hc), fun c hc => ?_⟩, ?_, hW5, s2.tr (wSm_put q6 (by unfold not0; decide) (Nat.le_refl _)) s4, fun x o hx h1 h2 => ?_, fun x hx => ?_, fun x o hx => ?_⟩
  · rw [List.mem_singleton.mp hc]; exact hT5
  · rw [List.mem_singleton.mp hc]
    exact ⟨hk1, h8, hch, hL, hls, b1, b2, b3, b4, hwf⟩
  · rw [List.mem_singleton.mp hc]
    exact ⟨Int.le_refl _, fun hne => absurd rfl hne, hinF⟩
  · rw [hof] at hx
    rcases fp_put hf with h' | h'
    · exact (hown x hx).2 h'
    · obtain ⟨o, ho⟩ := hownd x hx
      exact (q2 x o ho (hown x hx).2).2 h'
  · rw [dnk_one (by rw [i_le] at h1; exact h1) (by rw [i_le] at h2; exact h2)]
    exact s6 x h1 h2
  · rw [ksum_cons, ksum_nil]
    exact s7
  · rw [List.mem_singleton.mp hc]
    exact s9 hg9
  · rw [List.mem_singleton.mp hc]
    exact s10 hg9
  · rw [ksum_cons, ksum_nil]
    show ksum (xl h ks) ls + _ + 0 ≤ xB
    rw [xs_ls, Nat.add_comm (xs h ks _)]
    exact s8
  · have hf : ¬ wFp wb dp x := fun hf => by
      rcases s2.fp hf with h' | h'
      · exact h2 h'
      · rw [hx] at h'; cases h'
    obtain ⟨z1, z2⟩ := q2 x o (s3 x o hx h1 h2) hf
    exact hk5 x o z1 z2
  · obtain ⟨z1, z2⟩ := q4 x (s5 x hx)
    rcases z1 with ⟨fs, z1⟩ | ⟨fs, z1⟩
    · exact Or.inl ⟨fs, hk5 x _ z1 z2⟩
    · exact Or.inr ⟨fs, hk5 x _ z1 z2⟩
  · obtain ⟨o', ho'⟩ := s4 x o hx
    obtain ⟨o2, ho2⟩ := q3 x o' ho'
    by_cases e : x = ca
    · exact ⟨_, e ▸ hca5⟩
    · exact ⟨o2, hk5 x _ ho2 e⟩
theorem fin_2 {kb nb ca cc k4 n4 c5 q : Nat} {ns : List (Kid (h + 1))} (hF : FS Fz now lo hi dp h p cp cl αb wb ks ls c1 c2) (hS : SB α w now lo hi dp h t0 f wB xB p cp cl αb wb ks ls) (h9 : 8 < ks.length) (hL : ls.length ≤ 24) (hq : q = (ks.length + 7) / 8) (hg : gotW αb wb dp 3 dp kb nb ca cc α4 k4 n4) (hl : ns.length = q) (hn : nds ks ls q now ns) (hTn : ∀ c ∈ ns, Th α5 (h + 1) c.2.2) (hnd3 : (ns.flatMap ad3).Nodup) (hfr3 : ∀ c ∈ ns, ∀ x ∈ ad3 c, α4 x = none) (hk5 : ∀ x o, α4 x = some o → x ≠ ca → α5 x = some o) (hca5 : α5 ca = some (oP (kA ns) c5)) (hc4 : 4 ≤ c5) (hc8 : c5 ≤ 800) :
    Rst α Fz now lo hi w dp (h + 1) t0 f wB xB α5 (wput wb 3 dp (ca, c5)) ca c5 ns := by
  obtain ⟨hT, hch, hwf, hls, hk1, hinF, hnd, hown, hFz, hW, hdp, b1, b2, b3, b4, -⟩ := hF
  obtain ⟨s1, s2, s3, s4, s5, s6, s7, s8, s9, s10⟩ := hS
  obtain ⟨q1, q2, q3, q4, q5, q6⟩ := made_keep hW hg
  obtain ⟨n1, n2, n3, n4, n5, n6, n7, n8, n9⟩ := nforest hch hwf hls hL (by omega) (by omega) (by omega) hn hl
  have hW5 : WK α5 (wput wb 3 dp (ca, c5)) dp := by
    have := hg.2.1.upd (α' := α5) (kd := 3) (j := dp) (a := ca) (c := cc) (c' := c5) (by decide) wput_s ⟨_, hca5⟩ hc4 hc8 (fun x o hx ho => hk5 x o ho hx)
    rw [wput2] at this
    exact this
  have hnone4 : ∀ x, α4 x = none → αb x = none := fun x hx => by
    cases hy : αb x with
    | none => rfl
    | some o =>
      obtain ⟨o', ho'⟩ := q3 x o hy
      rw [hx] at ho'; cases ho'
  have hnoneb : ∀ x, αb x = none → α x = none := fun x hx => by
    cases hy : α x with
    | none => rfl
    | some o =>
      obtain ⟨o', ho'⟩ := s4 x o hy
      rw [hx] at ho'; cases ho'
  have hownd : ∀ x ∈ ownF now h ks, ∃ o, αb x = some o := fun x hx => by
    have hx9 : x ∈ ownT now (h + 1) (mkN p cp cl now ks ls c1 c2) := by rw [own3]; exact List.mem_append_right _ hx
    obtain ⟨o, ho, -⟩ := Th.all_at _ _ hT x (ownT_all _ _ x hx9)
    exact ⟨o, ho⟩
  have hcase : ∀ x ∈ ownF now (h + 1) ns, α4 x = none ∨ x ∈ ownF now h ks := fun x hx => by
    rcases List.mem_append.mp (n9.mem_iff.mp hx) with h' | h'
    · obtain ⟨c, hc, hx9⟩ := List.mem_flatMap.mp h'
      exact Or.inl (hfr3 c hc x hx9)
    · exact Or.inr h'
  refine ⟨wput_s, hca5, by omega, n1, hTn, n2, fun c hc => ?_, ?_, fun x hx => ?_, fun x hx hf => ?_, fun x h1 h2 => (n3 x h1 h2).trans (s6 x h1 h2), Nat.le_trans n4 s7, fun hg9 => n7 (s9 hg9).2, fun hg9 => n8 (s10 hg9), ?_, hW5, s2.tr (wSm_put q6 (by unfold not0; decide) (Nat.le_refl _)) s4, fun x o hx h1 h2 => ?_, fun x hx => ?_, fun x o hx => ?_⟩
  · obtain ⟨j, hj⟩ := mem_get.mp hc
    obtain ⟨-, -, p9, cp9, cl9, lj, c19, c29, e3, -⟩ := hn j c hj
    rw [e3]
    exact ⟨Int.le_refl _, fun hne => absurd rfl hne, fun c' hc' => hinF c' (List.mem_of_mem_take (List.mem_of_mem_drop hc'))⟩
  · rw [n9.nodup_iff, List.nodup_append]
    refine ⟨hnd3, (List.nodup_append.mp hnd).2.1, fun a ha b hb e => ?_⟩
    obtain ⟨c, hc, hx9⟩ := List.mem_flatMap.mp ha
    obtain ⟨o, ho⟩ := hownd b hb
    rw [← e, hnone4 a (hfr3 c hc a hx9)] at ho
    cases ho
  · rcases hcase x hx with h' | h'
    · exact Or.inr (hnoneb x (hnone4 x h'))
    · exact s1 x (List.mem_append_right _ h')
  · rcases hcase x hx with h' | h'
    · obtain ⟨o, ho, -⟩ := (hg.2.1.dom (show wFp (wput wb 3 dp (ca, cc)) dp x from by
        rcases hf with hf | ⟨kd, j, c9, hk, hj, e⟩
        · exact Or.inl hf
        · by_cases e2 : kd = 3 ∧ j = dp
          · obtain ⟨rfl, rfl⟩ := e2
            rw [wput_s] at e
            cases e
            exact Or.inr ⟨3, j, cc, hk, hj, wput_s⟩
          · rw [wput_n e2] at e
            exact Or.inr ⟨kd, j, c9, hk, hj, by rw [wput_n e2]; exact e⟩))
      rw [h'] at ho; cases ho
    · have := (hown x (List.mem_append_right _ h')).2
      rcases fp_put hf with h9 | h9
      · exact this h9
      · obtain ⟨o, ho⟩ := hownd x h'
        exact (q2 x o ho this).2 h9
  · exact Nat.le_trans (Nat.le_trans (Nat.le_add_right _ _) n5) s8
  · have hf : ¬ wFp wb dp x := fun hf => by
      rcases s2.fp hf with h' | h'
      · exact h2 h'
      · rw [hx] at h'; cases h'
    obtain ⟨z1, z2⟩ := q2 x o (s3 x o hx h1 h2) hf
    exact hk5 x o z1 z2
  · obtain ⟨z1, z2⟩ := q4 x (s5 x hx)
    rcases z1 with ⟨fs, z1⟩ | ⟨fs, z1⟩
    · exact Or.inl ⟨fs, hk5 x _ z1 z2⟩
    · exact Or.inr ⟨fs, hk5 x _ z1 z2⟩
  · obtain ⟨o', ho'⟩ := s4 x o hx
    obtain ⟨o2, ho2⟩ := q3 x o' ho'
    by_cases e : x = ca
    · exact ⟨_, e ▸ hca5⟩
    · exact ⟨o2, hk5 x _ ho2 e⟩
end FIN
