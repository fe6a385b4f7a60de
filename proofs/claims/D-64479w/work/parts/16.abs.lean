/-! ABSTRACT MEMORY: rows, letters, pages as values; everything else raw -/
set_option maxRecDepth 100000
abbrev AO : Type := (List (Int32 × Int64) × Nat) ⊕ ((List Nat × Nat) ⊕ ((List (Nat × Int32) × Nat) ⊕ Cel))
/-- a Row: its pairs, its capacity -/
def oR (l : List (Int32 × Int64)) (c : Nat) : AO := .inl (l, c)
/-- Letters: addresses of its messages, its capacity -/
def oL (l : List Nat) (c : Nat) : AO := .inr (.inl (l, c))
/-- Pages: addresses and least keys, its capacity -/
def oP (l : List (Nat × Int32)) (c : Nat) : AO := .inr (.inr (.inl (l, c)))
def oW (c : Cel) : AO := .inr (.inr (.inr c))
abbrev AM : Type := Nat → Option AO
def aset (α : AM) (a : Nat) (o : AO) : AM := fun q => if q = a then some o else α q
theorem aset_s {α : AM} {a : Nat} {o : AO} : aset α a o a = some o := if_pos rfl
theorem aset_n {α : AM} {a q : Nat} {o : AO} (h : q ≠ a) : aset α a o q = α q := if_neg h
def capM : Nat := 1000000
def okC (μ : Mem) (a : Nat) (w : Nat × Nat) (o : AO) : Prop := match o with
  | .inl (l, c) => ∃ (ks : List Int32) (vs : List Int64), μ a = some (cO 4 [.ref w.1, .ref w.2, .int (nI l.length)]) ∧ μ w.1 = some (cI ks) ∧ μ w.2 = some (cJ vs) ∧ ks.length = c ∧ vs.length = c ∧ l.length ≤ c ∧ c ≤ capM ∧ ks.take l.length = l.map (·.1) ∧ vs.take l.length = l.map (·.2)
  | .inr (.inl (l, c)) => ∃ rs : List (Option Nat), μ a = some (cO 7 [.ref w.1, .int (nI l.length)]) ∧ μ w.1 = some (cR 4 rs) ∧ rs.length = c ∧ l.length ≤ c ∧ c ≤ capM ∧ rs.take l.length = l.map some
  | .inr (.inr (.inl (l, c))) => ∃ (ps : List (Option Nat)) (ks : List Int32), μ a = some (cO 10 [.ref w.1, .ref w.2, .int (nI l.length)]) ∧ μ w.1 = some (cR 5 ps) ∧ μ w.2 = some (cI ks) ∧ ps.length = c ∧ ks.length = c ∧ l.length ≤ c ∧ c ≤ capM ∧ ps.take l.length = l.map (fun q => some q.1) ∧ ks.take l.length = l.map (·.2)
  | .inr (.inr (.inr c)) => μ a = some c
def arrs (o : AO) (w : Nat × Nat) : List Nat := match o with
  | .inl _ => [w.1, w.2]
  | .inr (.inl _) => [w.1]
  | .inr (.inr (.inl _)) => [w.1, w.2]
  | .inr (.inr (.inr _)) => []
def RepW (α : AM) (μ : Mem) (w : Nat → Nat × Nat) : Prop :=
  (∀ a o, α a = some o → okC μ a (w a) o) ∧ (∀ a o x, α a = some o → x ∈ arrs o (w a) → α x = none) ∧ (∀ a b o o' x, α a = some o → α b = some o' → x ∈ arrs o (w a) → x ∈ arrs o' (w b) → a = b)
def Rep (α : AM) (μ : Mem) : Prop := ∃ w, RepW α μ w
theorem okC.self {μ : Mem} {a : Nat} {w : Nat × Nat} {o : AO} (h : okC μ a w o) : ∃ c, μ a = some c := by
  rcases o with ⟨l, c⟩ | ⟨l, c⟩ | ⟨l, c⟩ | c
  · obtain ⟨ks, vs, h1, -⟩ := h; exact ⟨_, h1⟩
  · obtain ⟨rs, h1, -⟩ := h; exact ⟨_, h1⟩
  · obtain ⟨ps, ks, h1, -⟩ := h; exact ⟨_, h1⟩
  · exact ⟨_, h⟩
theorem okC.arr {μ : Mem} {a : Nat} {w : Nat × Nat} {o : AO} (h : okC μ a w o) : ∀ x ∈ arrs o w, ∃ c, μ x = some c := by
  rcases o with ⟨l, c⟩ | ⟨l, c⟩ | ⟨l, c⟩ | c
  · obtain ⟨ks, vs, h1, h2, h3, -⟩ := h
    intro x hx
    rcases List.mem_cons.mp hx with e | hx
    · exact ⟨_, e ▸ h2⟩
    · rw [List.mem_singleton.mp hx]; exact ⟨_, h3⟩
  · obtain ⟨rs, h1, h2, -⟩ := h
    intro x hx
    rw [List.mem_singleton.mp hx]; exact ⟨_, h2⟩
  · obtain ⟨ps, ks, h1, h2, h3, -⟩ := h
    intro x hx
    rcases List.mem_cons.mp hx with e | hx
    · exact ⟨_, e ▸ h2⟩
    · rw [List.mem_singleton.mp hx]; exact ⟨_, h3⟩
  · intro x hx; cases hx
theorem okC.kept {μ μ' : Mem} {a : Nat} {w : Nat × Nat} {o : AO} (h : okC μ a w o) (h0 : ∀ c, μ a = some c → μ' a = some c) (h1 : ∀ x ∈ arrs o w, ∀ c, μ x = some c → μ' x = some c) : okC μ' a w o := by
  rcases o with ⟨l, c⟩ | ⟨l, c⟩ | ⟨l, c⟩ | c
  · obtain ⟨ks, vs, q1, q2, q3, q4⟩ := h
    exact ⟨ks, vs, h0 _ q1, h1 _ (by simp [arrs]) _ q2, h1 _ (by simp [arrs]) _ q3, q4⟩
  · obtain ⟨rs, q1, q2, q4⟩ := h
    exact ⟨rs, h0 _ q1, h1 _ (by simp [arrs]) _ q2, q4⟩
  · obtain ⟨ps, ks, q1, q2, q3, q4⟩ := h
    exact ⟨ps, ks, h0 _ q1, h1 _ (by simp [arrs]) _ q2, h1 _ (by simp [arrs]) _ q3, q4⟩
  · exact h0 _ h
theorem Rep.non {α : AM} {μ : Mem} (h : Rep α μ) {x : Nat} (hx : μ x = none) : α x = none := by
  obtain ⟨w, h1, -, -⟩ := h
  cases ha : α x with
  | none => rfl
  | some o =>
    obtain ⟨c, hc⟩ := (h1 x o ha).self
    rw [hx] at hc
    cases hc
theorem Rep.raw {α : AM} {μ : Mem} (h : Rep α μ) {a : Nat} {c : Cel} (ha : α a = some (oW c)) : μ a = some c := by
  obtain ⟨w, h1, -, -⟩ := h
  exact h1 a _ ha
def wset (w : Nat → Nat × Nat) (a : Nat) (v : Nat × Nat) : Nat → Nat × Nat := fun q => if q = a then v else w q
theorem wset_s {w : Nat → Nat × Nat} {a : Nat} {v : Nat × Nat} : wset w a v a = v := if_pos rfl
theorem wset_n {w : Nat → Nat × Nat} {a q : Nat} {v : Nat × Nat} (h : q ≠ a) : wset w a v q = w q := if_neg h
/-- the container at a (or a new one) changes: what it is, and where its arrays lie -/
theorem RepW.upd {α : AM} {μ μ' : Mem} {w : Nat → Nat × Nat} {a : Nat} {o' : AO} {w' : Nat × Nat} {S : List Nat} (h : RepW α μ w) (hS : (∃ o, α a = some o ∧ S = arrs o (w a)) ∨ (α a = none ∧ S = [] ∧ ∀ b o, α b = some o → a ∉ arrs o (w b)))
    (hok : okC μ' a w' o') (hk : ∀ q c, q ≠ a → q ∉ S → μ q = some c → μ' q = some c) (hnew : ∀ x ∈ arrs o' w', x ≠ a ∧ (x ∈ S ∨ μ x = none)) : RepW (aset α a o') μ' (wset w a w') := by
  obtain ⟨h1, h2, h3⟩ := h
  have hSn : ∀ x ∈ S, α x = none := by
    intro x hx
    rcases hS with ⟨o, ho, rfl⟩ | ⟨-, rfl, -⟩
    · exact h2 a o x ho hx
    · cases hx
  have hSo : ∀ b o, b ≠ a → α b = some o → ∀ x ∈ arrs o (w b), x ∉ S := by
    intro b o hb ho x hx hxS
    rcases hS with ⟨o0, ho0, rfl⟩ | ⟨-, rfl, -⟩
    · exact hb (h3 b a o o0 x ho ho0 hx hxS)
    · cases hxS
  have ha : ∀ b o, α b = some o → a ∉ arrs o (w b) := by
    intro b o hb hx
    rcases hS with ⟨o0, ho0, rfl⟩ | ⟨-, -, h⟩
    · rw [h2 b o a hb hx] at ho0; cases ho0
    · exact h b o hb hx
  have hfr : ∀ x, μ x = none → α x = none ∧ ∀ b o, α b = some o → x ∉ arrs o (w b) := by
    intro x hx
    refine ⟨Rep.non ⟨w, h1, h2, h3⟩ hx, fun b o hb hm => ?_⟩
    obtain ⟨c, hc⟩ := (h1 b o hb).arr x hm
    rw [hx] at hc
    cases hc
  have hn2 : ∀ x ∈ arrs o' w', ∀ b o, b ≠ a → α b = some o → x ∉ arrs o (w b) := by
    intro x hx b o hb ho hm
    rcases (hnew x hx).2 with h | h
    · exact hSo b o hb ho x hm h
    · exact (hfr x h).2 b o ho hm
  refine ⟨fun b o hb => ?_, fun b o x hb hx => ?_, fun b b' o o2 x hb hb' hx hx' => ?_⟩
  · by_cases e : b = a
    · subst e
      rw [aset_s] at hb
      cases hb
      rw [wset_s]
      exact hok
    · rw [aset_n e] at hb
      rw [wset_n e]
      refine (h1 b o hb).kept (fun c hc => hk b c e (fun hm => ?_) hc) (fun x hx c hc => hk x c (fun z => ?_) (hSo b o e hb x hx) hc)
      · rw [hSn b hm] at hb; cases hb
      · exact ha b o hb (z ▸ hx)
  · by_cases e : b = a
    · subst e
      rw [aset_s] at hb
      cases hb
      rw [wset_s] at hx
      rw [aset_n (hnew x hx).1]
      rcases (hnew x hx).2 with h | h
      · exact hSn x h
      · exact (hfr x h).1
    · rw [aset_n e] at hb
      rw [wset_n e] at hx
      rw [aset_n (fun z : x = a => ha b o hb (z ▸ hx))]
      exact h2 b o x hb hx
  · by_cases e : b = a
    · by_cases e' : b' = a
      · rw [e, e']
      · subst e
        rw [aset_s] at hb
        cases hb
        rw [wset_s] at hx
        rw [aset_n e'] at hb'
        rw [wset_n e'] at hx'
        exact absurd hx' (hn2 x hx b' o2 e' hb')
    · by_cases e' : b' = a
      · subst e'
        rw [aset_s] at hb'
        cases hb'
        rw [wset_s] at hx'
        rw [aset_n e] at hb
        rw [wset_n e] at hx
        exact absurd hx (hn2 x hx' b o e hb)
      · rw [aset_n e] at hb
        rw [aset_n e'] at hb'
        rw [wset_n e] at hx
        rw [wset_n e'] at hx'
        exact h3 b b' o o2 x hb hb' hx hx'
/-- a raw cell is written -/
theorem Rep.put {α : AM} {μ : Mem} (h : Rep α μ) {a : Nat} {c : Cel} (ha : α a = some (oW c)) (c' : Cel) : Rep (aset α a (oW c')) (mset μ a c') := by
  obtain ⟨w, hw⟩ := h
  exact ⟨_, hw.upd (S := []) (w' := (0, 0)) (Or.inl ⟨_, ha, rfl⟩) (show mset μ a c' a = some c' from mset_s) (fun q c hq _ hc => by rw [mset_n hq]; exact hc) (fun x hx => by cases hx)⟩
/-- a raw cell is made -/
theorem Rep.new {α : AM} {μ : Mem} (h : Rep α μ) {a : Nat} (ha : μ a = none) (c' : Cel) : Rep (aset α a (oW c')) (mset μ a c') := by
  obtain ⟨w, hw⟩ := h
  have hn := Rep.non ⟨w, hw⟩ ha
  refine ⟨_, hw.upd (S := []) (w' := (0, 0)) (Or.inr ⟨hn, rfl, fun b o hb hm => ?_⟩) (show mset μ a c' a = some c' from mset_s) (fun q c hq _ hc => by rw [mset_n hq]; exact hc) (fun x hx => by cases hx)⟩
  obtain ⟨c, hc⟩ := (hw.1 b o hb).arr a hm
  rw [ha] at hc
  cases hc
theorem aset2 {α : AM} {a : Nat} {c c' : AO} : aset (aset α a c) a c' = aset α a c' := by
  funext q
  unfold aset
  by_cases h : q = a <;> simp [h]
theorem asetC {α : AM} {a b : Nat} {c c' : AO} (h : a ≠ b) : aset (aset α a c) b c' = aset (aset α b c') a c := by
  funext q
  unfold aset
  by_cases h1 : q = a
  · subst h1
    simp [h]
  · simp [h1]
theorem aset_id {α : AM} {a : Nat} {o : AO} (h : α a = some o) : aset α a o = α := by
  funext q
  unfold aset
  by_cases h1 : q = a
  · subst h1
    simp [h]
  · simp [h1]
theorem ane {α : AM} {a b : Nat} {c c' : AO} (h1 : α a = some c) (h2 : α b = some c') (h : c ≠ c') : a ≠ b := by
  intro e
  subst e
  rw [h1] at h2
  exact h (Option.some.inj h2)
theorem ane_fr {α : AM} {a b : Nat} {c : AO} (h1 : α a = none) (h2 : α b = some c) : a ≠ b := by
  intro e
  subst e
  rw [h1] at h2
  cases h2
/-- a contract over the abstract memory -/
def aMs (g : Cx) (l : Launch) (d k n : Nat) (M : MI) (args : List Value) (α : AM) (Q : Outcome → AM → Nat → Nat → Prop) : Prop :=
  ∀ μ, Rep α μ → Ms g l d k n M args μ (fun o μ' k' n' => ∃ α', Rep α' μ' ∧ Q o α' k' n')
