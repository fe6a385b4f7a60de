/-! Work as one thing: its arrays and what hangs on them -/
set_option maxRecDepth 100000
/-- Work's address, its four arrays, and for each (rows, gone, left, come) and depth what is there: address, capacity -/
abbrev WS : Type := Nat × (Nat → Nat) × (Nat → Nat → Option (Nat × Nat))
def wCls (kd : Nat) : Nat := if kd = 0 then 6 else if kd = 3 then 8 else 7
def wMin (kd : Nat) : Nat := if kd = 0 then 16 else if kd = 3 then 4 else 8
def wMax (kd : Nat) : Nat := if kd = 0 then 2560 else if kd = 3 then 400 else 4400
def wSl (kd : Nat) : Nat := if kd = 0 then 4 else if kd = 3 then 4 else 2
def isCont (α : AM) (kd a c : Nat) : Prop := if kd = 0 then ∃ r, α a = some (oR r c) else if kd = 3 then ∃ ps, α a = some (oP ps c) else ∃ ms, α a = some (oL ms c)
def emp (kd c : Nat) : AO := if kd = 0 then oR [] c else if kd = 3 then oP [] c else oL [] c
def wArr (e : Nat → Option (Nat × Nat)) : List (Option Nat) := (List.range 16).map (fun j => (e j).map (·.1))
def WK (α : AM) (w : WS) (d0 : Nat) : Prop :=
  α w.1 = some (oW (cO 6 [.ref (w.2.1 0), .ref (w.2.1 1), .ref (w.2.1 2), .ref (w.2.1 3)])) ∧
  (∀ kd, kd < 4 → α (w.2.1 kd) = some (oW (cR (wCls kd) (wArr (w.2.2 kd))))) ∧
  (∀ kd j a c, kd < 4 → w.2.2 kd j = some (a, c) → (∃ c', isCont α kd a c') ∧ (d0 ≤ j → isCont α kd a c ∧ wMin kd ≤ c ∧ c ≤ 2 * wMax kd)) ∧
  (∀ kd j kd' j' a c c', kd < 4 → kd' < 4 → w.2.2 kd j = some (a, c) → w.2.2 kd' j' = some (a, c') → kd = kd' ∧ j = j') ∧
  (∀ kd kd', kd < 4 → kd' < 4 → w.2.1 kd = w.2.1 kd' → kd = kd')
/-- all that is Work's -/
def wAll (w : WS) (x : Nat) : Prop := x = w.1 ∨ (∃ kd, kd < 4 ∧ x = w.2.1 kd) ∨ ∃ kd j c, kd < 4 ∧ w.2.2 kd j = some (x, c)
/-- what may change from a depth on -/
def wFp (w : WS) (d : Nat) (x : Nat) : Prop := (∃ kd, kd < 4 ∧ x = w.2.1 kd) ∨ ∃ kd j c, kd < 4 ∧ d ≤ j ∧ w.2.2 kd j = some (x, c)
def wput (w : WS) (kd j : Nat) (q : Nat × Nat) : WS := (w.1, w.2.1, fun kd' j' => if kd' = kd ∧ j' = j then some q else w.2.2 kd' j')
/-- credit that an entry may still want -/
def psiK (kd : Nat) (e : Option (Nat × Nat)) : Nat := 2 * wSl kd * wMax kd - (match e with
  | none => 0
  | some q => wSl kd * q.2)
def psi (w : WS) (j : Nat) : Nat := psiK 0 (w.2.2 0 j) + (psiK 1 (w.2.2 1 j) + (psiK 2 (w.2.2 2 j) + psiK 3 (w.2.2 3 j)))
def Wp (w : WS) : Nat → Nat → Nat
  | 0, d => psi w d
  | h + 1, d => psi w d + Wp w h (d + 1)
theorem wArr_len {e : Nat → Option (Nat × Nat)} : (wArr e).length = 16 := by simp [wArr]
theorem wArr_at {e : Nat → Option (Nat × Nat)} {j : Nat} (h : j < 16) : (wArr e)[j]? = some ((e j).map (·.1)) := by simp [wArr, h]
theorem wArr_set {e : Nat → Option (Nat × Nat)} {j : Nat} {q : Nat × Nat} : (wArr e).set j (some q.1) = wArr (fun i => if i = j then some q else e i) := by
  apply List.ext_getElem?
  intro i
  by_cases hi : i < 16
  · rw [wArr_at hi]
    by_cases e1 : i = j
    · subst e1
      rw [List.getElem?_set_self (by rw [wArr_len]; exact hi), if_pos rfl]
      rfl
    · rw [List.getElem?_set_ne (Ne.symm e1), wArr_at hi, if_neg e1]
  · rw [List.getElem?_eq_none (by rw [List.length_set, wArr_len]; omega), List.getElem?_eq_none (by rw [wArr_len]; omega)]
theorem kd4 {kd : Nat} (h : kd < 4) : kd = 0 ∨ kd = 1 ∨ kd = 2 ∨ kd = 3 := by omega
theorem wput_s {w : WS} {kd j : Nat} {q : Nat × Nat} : (wput w kd j q).2.2 kd j = some q := if_pos ⟨rfl, rfl⟩
theorem wput_n {w : WS} {kd j kd' j' : Nat} {q : Nat × Nat} (h : ¬ (kd' = kd ∧ j' = j)) : (wput w kd j q).2.2 kd' j' = w.2.2 kd' j' := if_neg h
theorem wput_id {w : WS} {kd j : Nat} {q : Nat × Nat} (h : w.2.2 kd j = some q) : wput w kd j q = w := by
  obtain ⟨x, y, z⟩ := w
  unfold wput
  congr 2
  funext kd' j'
  dsimp only
  split
  · next e => rw [e.1, e.2]; exact h.symm
  · rfl
section WKS
variable {α α' : AM} {w : WS} {kd j a c d0 : Nat}
theorem isCont.kept {kd' : Nat} (h : isCont α kd' a c) (hk : ∀ o, α a = some o → α' a = some o) : isCont α' kd' a c := by
  unfold isCont at *
  split
  · next e => rw [if_pos e] at h; obtain ⟨r, hr⟩ := h; exact ⟨r, hk _ hr⟩
  · next e =>
    rw [if_neg e] at h
    split
    · next e1 => rw [if_pos e1] at h; obtain ⟨r, hr⟩ := h; exact ⟨r, hk _ hr⟩
    · next e1 => rw [if_neg e1] at h; obtain ⟨r, hr⟩ := h; exact ⟨r, hk _ hr⟩
theorem isCont.some (h : isCont α kd a c) : ∃ o, α a = some o ∧ ∀ cl, o ≠ oW cl := by
  unfold isCont at h
  split at h
  · obtain ⟨r, hr⟩ := h; exact ⟨_, hr, oR_ne⟩
  · split at h
    · obtain ⟨r, hr⟩ := h; exact ⟨_, hr, oP_ne⟩
    · obtain ⟨r, hr⟩ := h; exact ⟨_, hr, oL_ne⟩
theorem WK.frame (hW : WK α w d0) (h : ∀ x o, wAll w x → α x = some o → α' x = some o) : WK α' w d0 := by
  obtain ⟨h1, h2, h3, h4, h5⟩ := hW
  refine ⟨h _ _ (Or.inl rfl) h1, fun kd hk => h _ _ (Or.inr (Or.inl ⟨kd, hk, rfl⟩)) (h2 kd hk), fun kd j a c hk he => ?_, h4, h5⟩
  obtain ⟨⟨c', q1⟩, q2⟩ := h3 kd j a c hk he
  exact ⟨⟨c', q1.kept (fun o ho => h _ _ (Or.inr (Or.inr ⟨kd, j, c, hk, he⟩)) ho)⟩, fun hd => ⟨(q2 hd).1.kept (fun o ho => h _ _ (Or.inr (Or.inr ⟨kd, j, c, hk, he⟩)) ho), (q2 hd).2⟩⟩
theorem WK.deep {d1 : Nat} (hW : WK α w d0) (h : d0 ≤ d1) : WK α w d1 := by
  obtain ⟨h1, h2, h3, h4, h5⟩ := hW
  exact ⟨h1, h2, fun kd j a c hk he => ⟨(h3 kd j a c hk he).1, fun hd => (h3 kd j a c hk he).2 (Nat.le_trans h hd)⟩, h4, h5⟩
/-- back to a lesser depth: what lies between is as it was -/
theorem WK.shal {d1 : Nat} (hW : WK α w d1) (h : ∀ kd j a c, kd < 4 → d0 ≤ j → j < d1 → w.2.2 kd j = some (a, c) → isCont α kd a c ∧ wMin kd ≤ c ∧ c ≤ 2 * wMax kd) : WK α w d0 := by
  obtain ⟨h1, h2, h3, h4, h5⟩ := hW
  refine ⟨h1, h2, fun kd j a c hk he => ⟨(h3 kd j a c hk he).1, fun hd => ?_⟩, h4, h5⟩
  by_cases e : d1 ≤ j
  · exact (h3 kd j a c hk he).2 e
  · exact h kd j a c hk hd (by omega) he
theorem WK.arr_ne (hW : WK α w d0) {kd' : Nat} (h1 : kd < 4) (h2 : kd' < 4) (he : w.2.2 kd j = some (a, c)) : a ≠ w.2.1 kd' ∧ a ≠ w.1 := by
  obtain ⟨c', hc'⟩ := (hW.2.2.1 kd j a c h1 he).1
  obtain ⟨o, ho, hne⟩ := hc'.some
  refine ⟨fun e => ?_, fun e => ?_⟩
  · rw [e, hW.2.1 kd' h2] at ho
    exact hne _ (Option.some.inj ho).symm
  · rw [e, hW.1] at ho
    exact hne _ (Option.some.inj ho).symm
theorem WK.self_ne (hW : WK α w d0) {kd' : Nat} (h2 : kd' < 4) : w.1 ≠ w.2.1 kd' := by
  refine ane hW.1 (hW.2.1 kd' h2) (fun h => ?_)
  cases h
/-- a thing of Work changes in place -/
theorem WK.upd {c' : Nat} (hW : WK α w d0) (hk : kd < 4) (he : w.2.2 kd j = some (a, c)) (hc : isCont α' kd a c') (h1 : wMin kd ≤ c') (h2 : c' ≤ 2 * wMax kd) (hf : ∀ x o, x ≠ a → α x = some o → α' x = some o) : WK α' (wput w kd j (a, c')) d0 := by
  have hW0 := hW
  obtain ⟨q1, q2, q3, q4, q5⟩ := hW
  refine ⟨hf _ _ (Ne.symm (hW0.arr_ne hk hk he).2) q1, fun kd' hk' => ?_, fun kd' j' a1 c1 hk' he' => ?_, fun kd1 j1 kd2 j2 a1 c1 c2 hk1 hk2 he1 he2 => ?_, q5⟩
  · have : wArr ((wput w kd j (a, c')).2.2 kd') = wArr (w.2.2 kd') := by
      unfold wArr
      refine List.map_congr_left (fun i _ => ?_)
      by_cases e : kd' = kd ∧ i = j
      · obtain ⟨rfl, rfl⟩ := e
        rw [wput_s, he]
        rfl
      · rw [wput_n e]
    rw [this]
    exact hf _ _ (Ne.symm (hW0.arr_ne hk hk' he).1) (q2 kd' hk')
  · by_cases e : kd' = kd ∧ j' = j
    · obtain ⟨rfl, rfl⟩ := e
      rw [wput_s] at he'
      cases he'
      exact ⟨⟨_, hc⟩, fun _ => ⟨hc, h1, h2⟩⟩
    · rw [wput_n e] at he'
      have hne : a1 ≠ a := fun z => by
        subst z
        exact e (q4 kd' j' kd j a1 c1 c hk' hk he' he)
      obtain ⟨⟨c9, z1⟩, z2⟩ := q3 kd' j' a1 c1 hk' he'
      exact ⟨⟨c9, z1.kept (fun o ho => hf _ _ hne ho)⟩, fun hd => ⟨(z2 hd).1.kept (fun o ho => hf _ _ hne ho), (z2 hd).2⟩⟩
  · have key0 : ∀ kd3 j3 c3, kd3 < 4 → (wput w kd j (a, c')).2.2 kd3 j3 = some (a1, c3) → ∃ c4, w.2.2 kd3 j3 = some (a1, c4) := by
      intro kd3 j3 c3 hk3 h3
      by_cases e : kd3 = kd ∧ j3 = j
      · obtain ⟨rfl, rfl⟩ := e
        rw [wput_s] at h3
        cases h3
        exact ⟨c, he⟩
      · rw [wput_n e] at h3
        exact ⟨_, h3⟩
    obtain ⟨c3, h3⟩ := key0 kd1 j1 c1 hk1 he1
    obtain ⟨c4, h4⟩ := key0 kd2 j2 c2 hk2 he2
    exact q4 kd1 j1 kd2 j2 a1 c3 c4 hk1 hk2 h3 h4
/-- a thing is made -/
theorem WK.made (hW : WK α w d0) (hk : kd < 4) (he : w.2.2 kd j = none) (hn : α a = none) (hc : isCont α' kd a c) (h1 : wMin kd ≤ c) (h2 : c ≤ 2 * wMax kd) (hA : α' (w.2.1 kd) = some (oW (cR (wCls kd) ((wArr (w.2.2 kd)).set j (some a))))) (hf : ∀ x o, x ≠ w.2.1 kd → α x = some o → α' x = some o) : WK α' (wput w kd j (a, c)) d0 := by
  have hW0 := hW
  obtain ⟨q1, q2, q3, q4, q5⟩ := hW
  have hfr : ∀ kd' j' c1, kd' < 4 → w.2.2 kd' j' = some (a, c1) → False := fun kd' j' c1 hk' h' => by
    obtain ⟨c9, hc9⟩ := (q3 kd' j' a c1 hk' h').1
    obtain ⟨o, ho, -⟩ := hc9.some
    rw [hn] at ho
    cases ho
  refine ⟨hf _ _ (hW0.self_ne hk) q1, fun kd' hk' => ?_, fun kd' j' a1 c1 hk' he' => ?_, fun kd1 j1 kd2 j2 a1 c1 c2 hk1 hk2 he1 he2 => ?_, q5⟩
  · by_cases e : kd' = kd
    · subst e
      have : wArr ((wput w kd' j (a, c)).2.2 kd') = (wArr (w.2.2 kd')).set j (some a) := by
        rw [show (some a : Option Nat) = some ((a, c) : Nat × Nat).1 from rfl, wArr_set]
        unfold wArr wput
        refine List.map_congr_left (fun i _ => ?_)
        dsimp only
        by_cases e : i = j <;> simp [e]
      rw [this]
      exact hA
    · have : wArr ((wput w kd j (a, c)).2.2 kd') = wArr (w.2.2 kd') := by
        unfold wArr
        refine List.map_congr_left (fun i _ => ?_)
        rw [wput_n (fun z => e z.1)]
      rw [this]
      exact hf _ _ (fun z => e (q5 kd' kd hk' hk z)) (q2 kd' hk')
  · by_cases e : kd' = kd ∧ j' = j
    · obtain ⟨rfl, rfl⟩ := e
      rw [wput_s] at he'
      cases he'
      exact ⟨⟨_, hc⟩, fun _ => ⟨hc, h1, h2⟩⟩
    · rw [wput_n e] at he'
      have hne := (hW0.arr_ne hk' hk he').1
      obtain ⟨⟨c9, z1⟩, z2⟩ := q3 kd' j' a1 c1 hk' he'
      exact ⟨⟨c9, z1.kept (fun o ho => hf _ _ hne ho)⟩, fun hd => ⟨(z2 hd).1.kept (fun o ho => hf _ _ hne ho), (z2 hd).2⟩⟩
  · by_cases e1 : kd1 = kd ∧ j1 = j
    · by_cases e2 : kd2 = kd ∧ j2 = j
      · exact ⟨e1.1.trans e2.1.symm, e1.2.trans e2.2.symm⟩
      · rw [wput_n e2] at he2
        obtain ⟨rfl, rfl⟩ := e1
        rw [wput_s] at he1
        cases he1
        exact (hfr _ _ _ hk2 he2).elim
    · rw [wput_n e1] at he1
      by_cases e2 : kd2 = kd ∧ j2 = j
      · obtain ⟨rfl, rfl⟩ := e2
        rw [wput_s] at he2
        cases he2
        exact (hfr _ _ _ hk1 he1).elim
      · rw [wput_n e2] at he2
        exact q4 kd1 j1 kd2 j2 a1 c1 c2 hk1 hk2 he1 he2
/-- what a call of go, stay, made, at leaves -/
def gotW (α : AM) (w : WS) (d0 kd j k n : Nat) (a c : Nat) (α' : AM) (k' n' : Nat) : Prop :=
  α' a = some (emp kd c) ∧ WK α' (wput w kd j (a, c)) d0 ∧ (∀ x o, α x = some o → x ≠ a → x ≠ w.2.1 kd → α' x = some o) ∧ (w.2.2 kd j = some (a, c) ∨ (w.2.2 kd j = none ∧ α a = none)) ∧ n + psiK kd (some (a, c)) ≤ n' + psiK kd (w.2.2 kd j) ∧ n' ≤ 4 * k' ∧ wMin kd ≤ c ∧ c ≤ 2 * wMax kd ∧ 4 * k + n' ≤ 4 * k' + n
theorem emp_cont (h : α' a = some (emp kd c)) : isCont α' kd a c := by
  unfold emp at h
  unfold isCont
  split at h
  · next e => rw [if_pos e]; exact ⟨_, h⟩
  · next e =>
    rw [if_neg e]
    split at h
    · next e1 => rw [if_pos e1]; exact ⟨_, h⟩
    · next e1 => rw [if_neg e1]; exact ⟨_, h⟩
theorem gotW.old {k n : Nat} (hW : WK α w d0) (hd : d0 ≤ j) (hk : kd < 4) (he : w.2.2 kd j = some (a, c)) (hn : n ≤ 4 * k) : gotW α w d0 kd j k n a c (aset α a (emp kd c)) k n := by
  obtain ⟨h1, h2, h3⟩ := (hW.2.2.1 kd j a c hk he).2 hd
  exact ⟨aset_s, hW.upd hk he (emp_cont aset_s) h2 h3 (fun x o hx ho => (aset_n hx).trans ho), fun x o ho hx _ => (aset_n hx).trans ho, Or.inl he, by rw [he]; exact Nat.le_refl _, hn, h2, h3, Nat.le_refl _⟩
theorem gotW.new {k n k' n' : Nat} (hW : WK α w d0) (hk : kd < 4) (he : w.2.2 kd j = none) (hn : α a = none) (h1 : wMin kd ≤ c) (h2 : c ≤ 2 * wMax kd) (hkn : n' ≤ 4 * k') (hq : n ≤ n' + wSl kd * c) (hq4 : 4 * k + n' ≤ 4 * k' + n) :
    gotW α w d0 kd j k n a c (aset (aset α a (emp kd c)) (w.2.1 kd) (oW (cR (wCls kd) ((wArr (w.2.2 kd)).set j (some a))))) k' n' := by
  have na : a ≠ w.2.1 kd := ane_fr hn (hW.2.1 kd hk)
  have hs : aset (aset α a (emp kd c)) (w.2.1 kd) (oW (cR (wCls kd) ((wArr (w.2.2 kd)).set j (some a)))) a = some (emp kd c) := (aset_n na).trans aset_s
  have hf : ∀ x o, x ≠ w.2.1 kd → α x = some o → aset (aset α a (emp kd c)) (w.2.1 kd) (oW (cR (wCls kd) ((wArr (w.2.2 kd)).set j (some a)))) x = some o := fun x o hx ho => (aset_n hx).trans ((aset_n (fun z => by subst z; rw [hn] at ho; cases ho)).trans ho)
  refine ⟨hs, hW.made hk he hn (emp_cont hs) h1 h2 aset_s hf, fun x o ho _ hx => hf x o hx ho, Or.inr ⟨he, hn⟩, ?_, hkn, h1, h2, hq4⟩
  rw [he]
  unfold psiK
  have : wSl kd * c ≤ 2 * wSl kd * wMax kd := by
    calc wSl kd * c ≤ wSl kd * (2 * wMax kd) := Nat.mul_le_mul_left _ h2
      _ = 2 * wSl kd * wMax kd := by rw [← Nat.mul_assoc, Nat.mul_comm (wSl kd) 2]
  dsimp only
  omega
end WKS
