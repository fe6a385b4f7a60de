/-! A page whose letters go down: its state, how it goes on -/
set_option maxRecDepth 100000
def FS (Fz : Nat → Prop) (now lo hi : Int32) (dp h p cp cl : Nat) (α : AM) (w : WS) (ks : List (Kid h)) (ls : List (Nat × Msg)) (c1 c2 : Nat) : Prop :=
  Th α (h + 1) (mkN p cp cl now ks ls c1 c2) ∧ chn lo.toInt hi.toInt ks ∧ wfK ks ∧ lsOk lo hi ls ∧ 1 ≤ ks.length ∧ (∀ c ∈ ks, inF Fz now h c.2.2) ∧ ([p, cp, cl] ++ ownF now h ks).Nodup ∧ (∀ x ∈ [p, cp, cl] ++ ownF now h ks, ¬ Fz x ∧ ¬ wFp w dp x) ∧ (∀ x, Fz x → (∃ o, α x = some o) ∧ ¬ wFp w dp x) ∧ WK α w dp ∧ dp + (h + 1) ≤ 15 ∧ 4 ≤ c1 ∧ c1 ≤ 20000 ∧ 8 ≤ c2 ∧ c2 ≤ 20000 ∧ ksum (fun c : Kid h => wt h c.2.2) ks + puts ls ≤ 2560 ∧ (∀ c ∈ ks, hcR (ls.map (·.2)) c.1 c.2.1 + 24 * h ≤ 200) ∧ hitsR (ls.map (·.2)) ks ≤ 1800
def Tht (now : Int32) (h : Nat) (w : WS) (dp : Nat) (ks : List (Kid h)) (ls : List (Nat × Msg)) (c1 c2 B : Nat) : Nat :=
  (8 * ks.length - 4 * c1) + (4 * B - 2 * c2) + 104 * (max 4 ks.length - 4) + (39 + 4 * h) * puts ls + xs h ks (ls.map (·.2)) + (ksum (fun c : Kid h => Pg now h c.2.2) ks + ksum (fun c : Kid h => Xr h c.2.2) ks) + Wt w (h + 1) dp
def Evo (now lo hi : Int32) (dp h cp cl : Nat) (α : AM) (w : WS) (ks : List (Kid h)) (ls : List (Nat × Msg)) (α' : AM) (w' : WS) (ks' : List (Kid h)) (ls' : List (Nat × Msg)) : Prop :=
  (∀ x : Int32, lo ≤ x → x ≤ hi → effs (ls'.map (·.2)) x (dnk (den h) ks' x) = effs (ls.map (·.2)) x (dnk (den h) ks x)) ∧
  ksum (fun c : Kid h => wt h c.2.2) ks' + puts ls' ≤ ksum (fun c : Kid h => wt h c.2.2) ks + puts ls ∧
  ksum (fun c : Kid h => Xr h c.2.2) ks' + xs h ks' (ls'.map (·.2)) ≤ ksum (fun c : Kid h => Xr h c.2.2) ks + xs h ks (ls.map (·.2)) ∧
  ((∀ c ∈ ks, gd h c.2.2) → ∀ c ∈ ks', gd h c.2.2) ∧ (gls ks → gls ks') ∧ ks.length ≤ ks'.length ∧
  (∀ x ∈ ownF now h ks', x ∈ ownF now h ks ∨ α x = none) ∧ wSm α w w' not0 dp ∧
  (∀ x o, α x = some o → x ≠ cp → x ≠ cl → x ∉ ownF now h ks → ¬ wFp w dp x → α' x = some o) ∧
  (∀ x o, α x = some o → ∃ o', α' x = some o') ∧ ∀ x, isPg α x → isPg α' x
section FLS
variable {now lo hi : Int32} {dp h cp cl : Nat} {α α' α'' : AM} {w w' w'' : WS} {ks ks' ks'' : List (Kid h)} {ls ls' ls'' : List (Nat × Msg)}
theorem Evo.rf : Evo now lo hi dp h cp cl α w ks ls α w ks ls :=
  ⟨fun _ _ _ => rfl, Nat.le_refl _, Nat.le_refl _, fun h => h, fun h => h, Nat.le_refl _, fun x hx => Or.inl hx, wSm.rf, fun _ _ h _ _ _ _ => h, fun x o h => ⟨o, h⟩, fun _ h => h⟩
theorem Evo.tr (e1 : Evo now lo hi dp h cp cl α w ks ls α' w' ks' ls') (e2 : Evo now lo hi dp h cp cl α' w' ks' ls' α'' w'' ks'' ls'') : Evo now lo hi dp h cp cl α w ks ls α'' w'' ks'' ls'' := by
  obtain ⟨a1, a2, a3, a4, a5, a6, a7, a8, a9, a10, a11⟩ := e1
  obtain ⟨b1, b2, b3, b4, b5, b6, b7, b8, b9, b10, b11⟩ := e2
  have hnone : ∀ x, α' x = none → α x = none := fun x hx => by
    cases hy : α x with
    | none => rfl
    | some o =>
      obtain ⟨o', ho'⟩ := a10 x o hy
      rw [hx] at ho'; cases ho'
  refine ⟨fun x h1 h2 => (b1 x h1 h2).trans (a1 x h1 h2), Nat.le_trans b2 a2, Nat.le_trans b3 a3, fun h => b4 (a4 h), fun h => b5 (a5 h), Nat.le_trans a6 b6, fun x hx => ?_, a8.tr b8 a10, fun x o hx h1 h2 h3 h4 => ?_, fun x o hx => ?_, fun x hx => b11 x (a11 x hx)⟩
  · rcases b7 x hx with h | h
    · exact a7 x h
    · exact Or.inr (hnone x h)
  · refine b9 x o (a9 x o hx h1 h2 h3 h4) h1 h2 (fun h5 => ?_) (fun h5 => ?_)
    · rcases a7 x h5 with h | h
      · exact h3 h
      · rw [hx] at h; cases h
    · rcases a8.fp h5 with h | h
      · exact h4 h
      · rw [hx] at h; cases h
  · obtain ⟨o', ho'⟩ := a10 x o hx
    exact b10 x o' ho'
theorem gotW.keep {d0 kd j k n a c k' n' : Nat} (hg : gotW α w d0 kd j k n a c α' k' n') (hk : kd < 4) (hd : d0 ≤ j) {x : Nat} {o : AO} (hx : α x = some o) (hf : ¬ wFp w d0 x) : α' x = some o ∧ x ≠ a := by
  have h1 : x ≠ a := fun e => by
    rcases hg.in hk hd with h | h
    · exact hf (e ▸ h)
    · rw [e, h] at hx; cases hx
  exact ⟨hg.2.2.1 x o hx h1 (fun e => hf (Or.inl ⟨kd, hk, e⟩)), h1⟩
/-- a container that isn't Work's from this depth on changes within its kind -/
theorem WK.chgK {d0 ra : Nat} {o0 o1 : AO} (hW : WK α w d0) (ha : α ra = some o0) (hraw : ∀ cl, o0 ≠ oW cl) (hk : ∀ kd c, isCont α kd ra c → ∃ c', isCont α' kd ra c') (hne : ¬ wFp w d0 ra) (hf : ∀ x o, x ≠ ra → α x = some o → α' x = some o) : WK α' w d0 := by
  obtain ⟨h1, h2, h3, h4, h5⟩ := hW
  have hr : ∀ x cl, α x = some (oW cl) → x ≠ ra := fun x cl hx e => by
    subst e
    rw [ha] at hx
    exact hraw cl (Option.some.inj hx)
  refine ⟨hf _ _ (hr _ _ h1) h1, fun kd hk => hf _ _ (hr _ _ (h2 kd hk)) (h2 kd hk), fun kd j a c hkd he => ⟨?_, fun hd => ?_⟩, h4, h5⟩
  · obtain ⟨c', q1⟩ := (h3 kd j a c hkd he).1
    by_cases e : a = ra
    · subst e
      exact hk kd c' q1
    · exact ⟨c', q1.kept (fun o ho => hf _ _ e ho)⟩
  · obtain ⟨q1, q2⟩ := (h3 kd j a c hkd he).2 hd
    exact ⟨q1.kept (fun o ho => hf _ _ (fun e => hne (Or.inr ⟨kd, j, c, hkd, hd, e ▸ he⟩)) ho), q2⟩
theorem WK.chgL {d0 ra c0 c1 : Nat} {ms ms' : List Nat} (hW : WK α w d0) (ha : α ra = some (oL ms c0)) (ha' : α' ra = some (oL ms' c1)) (hne : ¬ wFp w d0 ra) (hf : ∀ x o, x ≠ ra → α x = some o → α' x = some o) : WK α' w d0 := by
  refine hW.chgK (o1 := oL ms' c1) ha oL_ne (fun kd c hc => ?_) hne hf
  unfold isCont at hc
  by_cases e0 : kd = 0
  · rw [if_pos e0] at hc; obtain ⟨r, hr⟩ := hc; rw [ha] at hr; cases hr
  · rw [if_neg e0] at hc
    by_cases e3 : kd = 3
    · rw [if_pos e3] at hc; obtain ⟨r, hr⟩ := hc; rw [ha] at hr; cases hr
    · exact ⟨c1, by unfold isCont; rw [if_neg e0, if_neg e3]; exact ⟨ms', ha'⟩⟩
theorem WK.chgP {d0 ra c0 c1 : Nat} {ms ms' : List (Nat × Int32)} (hW : WK α w d0) (ha : α ra = some (oP ms c0)) (ha' : α' ra = some (oP ms' c1)) (hne : ¬ wFp w d0 ra) (hf : ∀ x o, x ≠ ra → α x = some o → α' x = some o) : WK α' w d0 := by
  refine hW.chgK (o1 := oP ms' c1) ha oP_ne (fun kd c hc => ?_) hne hf
  unfold isCont at hc
  by_cases e0 : kd = 0
  · rw [if_pos e0] at hc; obtain ⟨r, hr⟩ := hc; rw [ha] at hr; cases hr
  · rw [if_neg e0] at hc
    by_cases e3 : kd = 3
    · exact ⟨c1, by unfold isCont; rw [if_neg e0, if_pos e3]; exact ⟨ms', ha'⟩⟩
    · rw [if_neg e3] at hc; obtain ⟨r, hr⟩ := hc; rw [ha] at hr; cases hr
theorem goL_R {lo hi : Int32} : ∀ {ms : List Msg}, (goL lo hi ms).countP isR = hcR ms lo hi := by
  intro ms
  induction ms with
  | nil => rfl
  | cons m t ih =>
    unfold hcR at *
    rw [List.countP_cons, ← ih]
    by_cases e : hit m lo hi = true
    · rw [show goL lo hi (m :: t) = goP lo hi m :: goL lo hi t by simp [goL, e], List.countP_cons]
      have : isR (goP lo hi m) = isR m := rfl
      rw [this, e, Bool.and_true]
    · rw [show goL lo hi (m :: t) = goL lo hi t by simp [goL, e]]
      have e' : hit m lo hi = false := by
        cases hx : hit m lo hi with
        | false => rfl
        | true => exact absurd hx e
      rw [e', Bool.and_false]
      simp
theorem nR_hits (hk : chn lo.toInt hi.toInt ks) : ∀ {ms : List Msg}, (∀ m ∈ ms, okM m ∧ lo ≤ m.2.1 ∧ m.2.2.1 ≤ hi) → ms.countP isR ≤ hitsR ms ks := by
  intro ms
  induction ms with
  | nil => intro _; exact Nat.zero_le _
  | cons m t ih =>
    intro h1
    have ih1 := ih (fun m hm => h1 m (List.mem_cons_of_mem _ hm))
    obtain ⟨ok, q1, q2⟩ := h1 m List.mem_cons_self
    have ok1 := ok.1
    rw [i_le] at q1 q2 ok1
    obtain ⟨c, hc', -, q3, q4⟩ := hk.find (x := m.2.1) q1 (by omega)
    have e : hitsR (m :: t) ks = ksum (fun c => if (isR m && hit m c.1 c.2.1) = true then 1 else 0) ks + hitsR t ks := by
      unfold hitsR
      have : ∀ l : List (Kid h), ksum (fun c => hcR (m :: t) c.1 c.2.1) l = ksum (fun c => if (isR m && hit m c.1 c.2.1) = true then 1 else 0) l + ksum (fun c => hcR t c.1 c.2.1) l := by
        intro l
        induction l with
        | nil => rfl
        | cons c u ihu =>
          rw [ksum_cons, ksum_cons, ksum_cons, ihu]
          have : hcR (m :: t) c.1 c.2.1 = hcR t c.1 c.2.1 + (if (isR m && hit m c.1 c.2.1) = true then 1 else 0) := by
            unfold hcR
            rw [List.countP_cons]
          omega
      exact this ks
    rw [List.countP_cons, e]
    cases hr : isR m with
    | false => simp; omega
    | true =>
      have h2 := ksum_mem (f := fun c : Kid h => if (isR m && hit m c.1 c.2.1) = true then 1 else 0) hc'
      have h3 : hit m c.1 c.2.1 = true := hit_iff.mpr ⟨by omega, by omega⟩
      rw [hr, h3] at h2
      rw [if_pos (show (true && true) = true from rfl)] at h2
      rw [if_pos rfl]
      omega
theorem len_pR {ms : List Msg} : ms.length = pM ms + ms.countP isR := by
  unfold pM
  induction ms with
  | nil => rfl
  | cons m t ih =>
    rw [List.length_cons, List.countP_cons, List.countP_cons, ih]
    cases isR m <;> simp <;> omega
/-- weight and number of children -/
theorem wt_ge : ∀ (h : Nat) (t : PT h) (lo hi : Int32), Wf h t lo hi → 8 ≤ wt h t := by
  intro h
  induction h with
  | zero =>
    intro t lo hi _
    obtain ⟨⟨p, r⟩, o, row, c⟩ := t
    show 8 ≤ max 8 row.length
    omega
  | succ h ih =>
    intro t lo hi hw
    obtain ⟨⟨p, cp, cl⟩, o, ks, ls, c1, c2⟩ := t
    obtain ⟨w1, w2, w3, w4, w5, w6, w7, w8, w9, w10⟩ := hw
    obtain ⟨c, hc⟩ := at_of (l := ks) (j := 0) (by omega)
    have h1 := ih c.2.2 c.1 c.2.1 (w10 c (List.mem_of_getElem? hc))
    have h2 := ksum_mem (f := fun c : Kid h => wt h c.2.2) (List.mem_of_getElem? hc)
    show 8 ≤ ksum (fun c : Kid h => wt h c.2.2) ks + puts ls
    omega
theorem ks_len (hw : wfK ks) : 8 * ks.length ≤ ksum (fun c : Kid h => wt h c.2.2) ks := by
  induction ks with
  | nil => exact Nat.zero_le _
  | cons c t ih =>
    rw [ksum_cons, List.length_cons]
    have := ih (fun c hc => hw c (List.mem_cons_of_mem _ hc))
    have := wt_ge h c.2.2 c.1 c.2.1 (hw c List.mem_cons_self)
    omega
theorem split_at {β : Type} {l : List β} {i : Nat} {c : β} (h : l[i]? = some c) : ∃ A B, l = A ++ c :: B ∧ A.length = i := by
  obtain ⟨h1, h2⟩ := List.getElem?_eq_some_iff.mp h
  refine ⟨l.take i, l.drop (i + 1), ?_, by simp; omega⟩
  rw [← h2, ← List.drop_eq_getElem_cons h1, List.take_append_drop]
end FLS
