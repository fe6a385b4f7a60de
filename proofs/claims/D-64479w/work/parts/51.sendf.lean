/-! what a sending leaves -/
set_option maxRecDepth 100000
section SFN
variable {g : Cx} {l : Launch} {α αG α4 α5 : AM} {h p cp cl c1 c2 dp c1' c2' ca cc : Nat} {now lo hi : Int32} {Fz : Nat → Prop} {w wG w4 : WS} {A Bk ts : List (Kid h)} {c : Kid h} {ls sq gq : List (Nat × Msg)}
/-- the page behind the parting of its letters -/
def GS (dp h p cp cl c1 c2' : Nat) (now : Int32) (α αG : AM) (w wG : WS) (ks : List (Kid h)) (sq : List (Nat × Msg)) : Prop :=
  Th αG (h + 1) (mkN p cp cl now ks sq c1 c2') ∧ WK αG wG dp ∧ wSm α w wG not0 dp ∧ (∀ x o, α x = some o → ¬ wFp w dp x → x ≠ cl → αG x = some o) ∧ (∀ x o, α x = some o → ∃ o', αG x = some o') ∧ ∀ x, isPg α x → isPg αG x
/-- separation, of what was and what the child became -/
theorem send_sep (hF : FS Fz now lo hi dp h p cp cl α w (A ++ c :: Bk) ls c1 c2) (hG : GS dp h p cp cl c1 c2' now α αG w wG (A ++ c :: Bk) sq) :
    (p ≠ cp ∧ p ≠ cl ∧ cp ≠ cl) ∧ (∀ x ∈ [p, cp, cl] ++ (ownF now h A ++ ownF now h Bk), x ∉ ownT now h c.2.2 ∧ x ∈ [p, cp, cl] ++ ownF now h (A ++ c :: Bk)) ∧ (∀ x ∈ [p, cp, cl] ++ ownF now h (A ++ c :: Bk), (∃ o, α x = some o) ∧ ¬ wFp wG dp x) ∧ (∀ x, Fz x → (∃ o, αG x = some o) ∧ ¬ wFp wG dp x ∧ x ∉ ownT now h c.2.2 ∧ x ≠ cp) ∧ (∀ c' ∈ A ++ c :: Bk, ∀ x ∈ allT h c'.2.2, x ≠ p ∧ x ≠ cp ∧ x ≠ cl) ∧ (∀ x, αG x = none → α x = none) := by
  obtain ⟨hT, hch, hwf, hls, hk1, hinF, hnd, hown, hFz, hW, -⟩ := hF
  obtain ⟨hTG, hWG, hsmG, hkeepG, hdomG, hpgG⟩ := hG
  have hnd' := hnd
  rw [ownF_app, ownF_cons] at hnd'
  have hcm : c ∈ A ++ c :: Bk := by simp
  have hpcl : p ≠ cp ∧ p ≠ cl ∧ cp ≠ cl := by
    have := (List.nodup_append.mp hnd).1
    simp at this
    exact ⟨this.1.1, this.1.2, this.2⟩
  have hfpG : ∀ x o, α x = some o → ¬ wFp w dp x → ¬ wFp wG dp x := fun x o hx hf hf' => by
    rcases hsmG.fp hf' with h' | h'
    · exact hf h'
    · rw [hx] at h'; cases h'
  have hownc : ∀ x ∈ ownT now h c.2.2, x ∈ ownF now h (A ++ c :: Bk) := fun x hx => List.mem_flatMap.mpr ⟨c, hcm, hx⟩
  have hownd : ∀ x ∈ [p, cp, cl] ++ ownF now h (A ++ c :: Bk), ∃ o, α x = some o := fun x hx => by
    rcases List.mem_append.mp hx with hx | hx
    · obtain ⟨o, ho, -⟩ := Th.all_at _ _ hT x (List.mem_append_left _ hx)
      exact ⟨o, ho⟩
    · obtain ⟨c', hc', hx⟩ := List.mem_flatMap.mp hx
      obtain ⟨o, ho, -⟩ := Th.all_at _ _ hT x (List.mem_append_right _ (List.mem_flatMap.mpr ⟨c', hc', ownT_all h c'.2.2 x hx⟩))
      exact ⟨o, ho⟩
  have hsepO : ∀ x ∈ ownF now h (A ++ c :: Bk), x ≠ p ∧ x ≠ cp ∧ x ≠ cl := fun x hx => by
    have := (List.nodup_append.mp hnd).2.2
    exact ⟨fun e => this p (by simp) x hx e.symm, fun e => this cp (by simp) x hx e.symm, fun e => this cl (by simp) x hx e.symm⟩
  refine ⟨hpcl, fun x hx => ⟨fun hc9 => ?_, ?_⟩, fun x hx => ⟨hownd x hx, ?_⟩, fun x hx => ?_, fun c' hc' x hx => ?_, fun x hx => ?_⟩
  · have h1 := List.nodup_append.mp hnd'
    rcases List.mem_append.mp hx with hx | hx
    · exact h1.2.2 x hx x (List.mem_append_right _ (List.mem_append_left _ hc9)) rfl
    · have h2 := List.nodup_append.mp h1.2.1
      rcases List.mem_append.mp hx with hx | hx
      · exact h2.2.2 x hx x (List.mem_append_left _ hc9) rfl
      · exact (List.nodup_append.mp h2.2.1).2.2 x hc9 x hx rfl
  · rcases List.mem_append.mp hx with hx | hx
    · exact List.mem_append_left _ hx
    · refine List.mem_append_right _ ?_
      rw [ownF_app, ownF_cons]
      rcases List.mem_append.mp hx with hx | hx
      · exact List.mem_append_left _ hx
      · exact List.mem_append_right _ (List.mem_append_right _ hx)
  · obtain ⟨o, ho⟩ := hownd x hx
    exact hfpG x o ho (hown x hx).2
  · obtain ⟨⟨o, ho⟩, h2⟩ := hFz x hx
    exact ⟨hdomG x o ho, hfpG x o ho h2, fun hc9 => (hown x (List.mem_append_right _ (hownc x hc9))).1 hx, fun e => (hown cp (by simp)).1 (e ▸ hx)⟩
  · rcases allT_or h c'.2.2 x (hinF c' hc') hx with h1 | h1
    · exact hsepO x (List.mem_flatMap.mpr ⟨c', hc', h1⟩)
    · exact ⟨fun e => (hown p (by simp)).1 (e ▸ h1), fun e => (hown cp (by simp)).1 (e ▸ h1), fun e => (hown cl (by simp)).1 (e ▸ h1)⟩
  · cases hy : α x with
    | none => rfl
    | some o =>
      obtain ⟨o', ho'⟩ := hdomG x o hy
      rw [hx] at ho'; cases ho'
variable {f4 : Int32 → Option Int64} {wB xB : Nat}
/-- memory behind a sending: the page, its children, Work -/
theorem send_mem (hF : FS Fz now lo hi dp h p cp cl α w (A ++ c :: Bk) ls c1 c2) (hG : GS dp h p cp cl c1 c2' now α αG w wG (A ++ c :: Bk) sq) (hRst : Rst αG Fz now c.1 c.2.1 wG (dp + 1) h c.2.2 f4 wB xB α4 w4 ca cc ts) (hcp5 : α5 cp = some (oP (kA (A ++ (ts ++ Bk))) c1')) (hk5 : ∀ x o, x ≠ cp → α4 x = some o → α5 x = some o) :
    Th α5 (h + 1) (mkN p cp cl now (A ++ (ts ++ Bk)) sq c1' c2') ∧ (∀ c' ∈ A ++ (ts ++ Bk), inF Fz now h c'.2.2) ∧ ([p, cp, cl] ++ ownF now h (A ++ (ts ++ Bk))).Nodup ∧ (∀ x ∈ [p, cp, cl] ++ ownF now h (A ++ (ts ++ Bk)), ¬ Fz x ∧ ¬ wFp w4 dp x) ∧ (∀ x, Fz x → (∃ o, α5 x = some o) ∧ ¬ wFp w4 dp x) ∧ WK α5 w4 dp ∧
    (∀ x ∈ ownF now h (A ++ (ts ++ Bk)), x ∈ ownF now h (A ++ c :: Bk) ∨ α x = none) ∧ wSm α w w4 not0 dp ∧ (∀ x o, α x = some o → x ≠ cp → x ≠ cl → x ∉ ownF now h (A ++ c :: Bk) → ¬ wFp w dp x → α5 x = some o) ∧ (∀ x o, α x = some o → ∃ o', α5 x = some o') ∧ ∀ x, isPg α x → isPg α5 x := by
  obtain ⟨hpcl, s1, s2, s3, s4, s5⟩ := send_sep hF hG
  obtain ⟨hT, hch, hwf, hls, hk1, hinF, hnd, hown, hFz, hW, -⟩ := hF
  obtain ⟨hTG, hWG, hsmG, hkeepG, hdomG, hpgG⟩ := hG
  obtain ⟨r1, r2, r3, r4, r5, r6, r7, r8, r9, r10, r11, r12, r13, r14, r15, r16, r17, r18, r19, r20⟩ := hRst
  have hcm : c ∈ A ++ c :: Bk := by simp
  have hownc : ∀ x ∈ ownT now h c.2.2, x ∈ [p, cp, cl] ++ ownF now h (A ++ c :: Bk) := fun x hx => List.mem_append_right _ (List.mem_flatMap.mpr ⟨c, hcm, hx⟩)
  have hold4 : ∀ x o, αG x = some o → x ∈ [p, cp, cl] ++ (ownF now h A ++ ownF now h Bk) → α4 x = some o := fun x o ho hx => r18 x o ho (s1 x hx).1 (fun hf => (s2 x (s1 x hx).2).2 (wFp_mono hf (Nat.le_succ _)))
  have hcp4 : α4 cp = some (oP (kA (A ++ c :: Bk)) c1) := hold4 cp _ hTG.2.1 (by simp)
  have hp4 := hold4 p _ hTG.1 (by simp)
  have hcl4 := hold4 cl _ hTG.2.2.1 (by simp)
  have hmsg4 : ∀ x m, αG x = some (oW (mC m)) → α4 x = some (oW (mC m)) := fun x m hx => r18 x _ hx (fun hc9 => by
    obtain ⟨o, ho, hne⟩ := Th.own_at h c.2.2 (hTG.2.2.2.2 c hcm) x hc9
    rw [hx] at ho
    exact hne m (Option.some.inj ho).symm) (fun hf => by
    obtain ⟨o, ho, hne⟩ := hWG.dom hf
    rw [hx] at ho
    exact hne m (Option.some.inj ho).symm)
  have hmsg5 : ∀ x m, α4 x = some (oW (mC m)) → α5 x = some (oW (mC m)) := fun x m hx => hk5 x _ (fun e => by rw [e, hcp4] at hx; cases hx) hx
  have hkid : ∀ c', (c' ∈ A ∨ c' ∈ Bk) → Th α5 h c'.2.2 := by
    intro c' hc'
    have hc9 : c' ∈ A ++ c :: Bk := by
      rcases hc' with h' | h'
      · exact List.mem_append_left _ h'
      · exact List.mem_append_right _ (List.mem_cons_of_mem _ h')
    have hin9 : ∀ x ∈ ownT now h c'.2.2, x ∈ [p, cp, cl] ++ (ownF now h A ++ ownF now h Bk) := fun x hx => by
      refine List.mem_append_right _ ?_
      rcases hc' with h' | h'
      · exact List.mem_append_left _ (List.mem_flatMap.mpr ⟨c', h', hx⟩)
      · exact List.mem_append_right _ (List.mem_flatMap.mpr ⟨c', h', hx⟩)
    have h4' : Th α4 h c'.2.2 := Th.kept (Fz := Fz) (now := now) h c'.2.2 (hTG.2.2.2.2 c' hc9) (hinF c' hc9) (fun x o hx ho => hold4 x o ho (hin9 x hx)) (fun x o hx ho => r18 x o ho (s3 x hx).2.2.1 (fun hf => (s3 x hx).2.1 (wFp_mono hf (Nat.le_succ _)))) hmsg4
    exact Th.keptT h c'.2.2 h4' (fun x o hx ho => hk5 x o (s4 c' hc9 x hx).2.1 ho) hmsg5
  have htscp : ∀ x ∈ ownF now h ts, x ≠ cp := fun x hx e => by
    rcases r9 x hx with h' | h'
    · exact (s1 cp (by simp)).1 (e ▸ h')
    · rw [e, hTG.2.1] at h'; cases h'
  have hTts : ∀ c' ∈ ts, Th α5 h c'.2.2 := fun c' hc' => Th.kept (Fz := Fz) (now := now) h c'.2.2 (r5 c' hc') (r7 c' hc') (fun x o hx ho => hk5 x o (htscp x (List.mem_flatMap.mpr ⟨c', hc', hx⟩)) ho) (fun x o hx ho => hk5 x o (s3 x hx).2.2.2 ho) hmsg5
  have hmemk : ∀ c' ∈ A ++ (ts ++ Bk), (c' ∈ A ∨ c' ∈ Bk) ∨ c' ∈ ts := fun c' hc' => by
    rcases List.mem_append.mp hc' with h' | h'
    · exact Or.inl (Or.inl h')
    · rcases List.mem_append.mp h' with h' | h'
      · exact Or.inr h'
      · exact Or.inl (Or.inr h')
  have hsm4 : wSm α w w4 not0 dp := hsmG.tr (r17.deep (Nat.le_succ _)) hdomG
  have hfp4 : ∀ x o, α x = some o → ¬ wFp w dp x → ¬ wFp w4 dp x := fun x o hx hf hf' => by
    rcases hsm4.fp hf' with h' | h'
    · exact hf h'
    · rw [hx] at h'; cases h'
  have hts4 : ∀ x ∈ ownF now h ts, ¬ Fz x ∧ ¬ wFp w4 dp x := fun x hx => by
    rcases r9 x hx with h' | h'
    · obtain ⟨o, ho⟩ := (s2 x (hownc x h')).1
      have := hown x (hownc x h')
      exact ⟨this.1, hfp4 x o ho this.2⟩
    · refine ⟨fun hf => ?_, fun hf => ?_⟩
      · obtain ⟨o, ho⟩ := (s3 x hf).1
        rw [h'] at ho; cases ho
      · rcases hf with hf | ⟨kd, j, c9, hk9, hj9, e9⟩
        · exact r10 x hx (Or.inl hf)
        · by_cases ej : dp + 1 ≤ j
          · exact r10 x hx (Or.inr ⟨kd, j, c9, hk9, ej, e9⟩)
          · rw [r17.2.2.1 kd j (Or.inr (by omega))] at e9
            obtain ⟨c8, hc8⟩ := (hWG.2.2.1 kd j x c9 hk9 e9).1
            obtain ⟨o, ho, -⟩ := hc8.some
            rw [h'] at ho; cases ho
  have hW5 : WK α5 w4 dp := by
    have hcpw : ¬ wFp w4 dp cp := by
      obtain ⟨o, ho⟩ := (s2 cp (by simp)).1
      exact hfp4 cp o ho (hown cp (by simp)).2
    have hW4 : WK α4 w4 dp := r16.shal (fun kd j a9 c9 hk9 hd1 hd2 he => by
      have ej : j = dp := by omega
      subst ej
      rw [r17.2.2.1 kd j (Or.inr (by omega))] at he
      obtain ⟨q1, q2⟩ := (hWG.2.2.1 kd j a9 c9 hk9 he).2 (Nat.le_refl _)
      refine ⟨q1.kept (fun o ho => r18 a9 o ho (fun hc9 => ?_) (hWG.notdeep hk9 he (by omega))), q2⟩
      exact (s2 a9 (hownc a9 hc9)).2 (Or.inr ⟨kd, j, c9, hk9, Nat.le_refl _, he⟩))
    exact hW4.chgP hcp4 hcp5 hcpw hk5
  refine ⟨⟨hk5 _ _ hpcl.1 hp4, hcp5, hk5 _ _ hpcl.2.2.symm hcl4, fun q hq => hmsg5 _ _ (hmsg4 _ _ (hTG.2.2.2.1 q hq)), fun c' hc' => ?_⟩, ?_, ?_, ?_, ?_, hW5, ?_, hsm4, ?_, ?_, ?_⟩
  · rcases hmemk c' hc' with h' | h'
    · exact hkid c' h'
    · exact hTts c' h'
  · intro c' hc'
    rcases hmemk c' hc' with (h' | h') | h'
    · exact hinF c' (List.mem_append_left _ h')
    · exact hinF c' (List.mem_append_right _ (List.mem_cons_of_mem _ h'))
    · exact r7 c' h'
  · rw [ownF_app, ownF_app, ← List.append_assoc]
    rw [ownF_app, ownF_cons, ← List.append_assoc] at hnd
    refine nodup_repl hnd r8 (fun x hx => ?_)
    rcases r9 x hx with h' | h'
    · exact Or.inl h'
    · right
      have hd9 : ∀ y ∈ [p, cp, cl] ++ ownF now h (A ++ c :: Bk), x ≠ y := fun y hy e => by
        obtain ⟨o, ho⟩ := (s2 y hy).1
        rw [← e, s5 x h'] at ho; cases ho
      refine ⟨fun hx9 => ?_, fun hx9 => ?_⟩
      · refine hd9 x (s1 x ?_).2 rfl
        rcases List.mem_append.mp hx9 with h9 | h9
        · exact List.mem_append_left _ h9
        · exact List.mem_append_right _ (List.mem_append_left _ h9)
      · exact hd9 x (s1 x (List.mem_append_right _ (List.mem_append_right _ hx9))).2 rfl
  · intro x hx
    have hcase : x ∈ [p, cp, cl] ++ (ownF now h A ++ ownF now h Bk) ∨ x ∈ ownF now h ts := by
      rcases List.mem_append.mp hx with h' | h'
      · exact Or.inl (List.mem_append_left _ h')
      · rw [ownF_app, ownF_app] at h'
        rcases List.mem_append.mp h' with h' | h'
        · exact Or.inl (List.mem_append_right _ (List.mem_append_left _ h'))
        · rcases List.mem_append.mp h' with h' | h'
          · exact Or.inr h'
          · exact Or.inl (List.mem_append_right _ (List.mem_append_right _ h'))
    rcases hcase with h' | h'
    · obtain ⟨o, ho⟩ := (s2 x (s1 x h').2).1
      have := hown x (s1 x h').2
      exact ⟨this.1, hfp4 x o ho this.2⟩
    · exact hts4 x h'
  · intro x hx
    obtain ⟨⟨o, ho⟩, h2⟩ := hFz x hx
    obtain ⟨oG, hoG⟩ := (s3 x hx).1
    exact ⟨⟨oG, hk5 x _ (s3 x hx).2.2.2 (r18 x _ hoG (s3 x hx).2.2.1 (fun hf => (s3 x hx).2.1 (wFp_mono hf (Nat.le_succ _))))⟩, hfp4 x o ho h2⟩
  · intro x hx
    rw [ownF_app, ownF_app] at hx
    rw [ownF_app, ownF_cons]
    rcases List.mem_append.mp hx with h' | h'
    · exact Or.inl (List.mem_append_left _ h')
    · rcases List.mem_append.mp h' with h' | h'
      · rcases r9 x h' with h9 | h9
        · exact Or.inl (List.mem_append_right _ (List.mem_append_left _ h9))
        · exact Or.inr (s5 x h9)
      · exact Or.inl (List.mem_append_right _ (List.mem_append_right _ h'))
  · intro x o hx h1 h2 h3 hf
    refine hk5 x o h1 (r18 x o (hkeepG x o hx hf h2) (fun hc9 => h3 (List.mem_flatMap.mpr ⟨c, hcm, hc9⟩)) (fun hf' => ?_))
    rcases hsmG.fp (wFp_mono hf' (Nat.le_succ _)) with h' | h'
    · exact hf h'
    · rw [hx] at h'; cases h'
  · intro x o hx
    obtain ⟨oG, hoG⟩ := hdomG x o hx
    by_cases e1 : x = cp
    · exact ⟨_, e1 ▸ hcp5⟩
    · obtain ⟨o4, ho4⟩ := r20 x oG hoG
      exact ⟨o4, hk5 x _ e1 ho4⟩
  · intro x hx
    have h4 := r19 x (hpgG x hx)
    have hxcp : x ≠ cp := fun e => by
      rcases h4 with ⟨fs, h'⟩ | ⟨fs, h'⟩ <;> (rw [e, hcp4] at h'; cases h')
    rcases h4 with ⟨fs, h'⟩ | ⟨fs, h'⟩
    · exact Or.inl ⟨fs, hk5 x _ hxcp h'⟩
    · exact Or.inr ⟨fs, hk5 x _ hxcp h'⟩
end SFN
