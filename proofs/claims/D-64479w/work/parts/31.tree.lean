/-! TREES by height, with their addresses; what memory must hold; order; contents -/
set_option maxRecDepth 100000
/-- a leaf: (its address, its row's), owner, pairs, capacity -/
abbrev Lf : Type := (Nat × Nat) × Int32 × Prs × Nat
/-- an inner page: (its address, its children's, its letters'), owner, children (low, high, tree), letters (address, message), capacities -/
abbrev Nd (X : Type) : Type := (Nat × Nat × Nat) × Int32 × List (Int32 × Int32 × X) × List (Nat × Msg) × Nat × Nat
def PT : Nat → Type
  | 0 => Lf
  | h + 1 => Nd (PT h)
abbrev Kid (h : Nat) : Type := Int32 × Int32 × PT h
def adr : (h : Nat) → PT h → Nat
  | 0, t => (fun ((p, _), _) => p : Lf → Nat) t
  | h + 1, t => (fun ((p, _), _) => p : Nd (PT h) → Nat) t
def own1 : (h : Nat) → PT h → Int32
  | 0, t => (fun (_, o, _) => o : Lf → Int32) t
  | h + 1, t => (fun (_, o, _) => o : Nd (PT h) → Int32) t
def kA {h : Nat} (ks : List (Kid h)) : List (Nat × Int32) := ks.map (fun c => (adr h c.2.2, c.1))
def allQ (α : AM) (qs : List (Nat × Msg)) : Prop := ∀ q ∈ qs, α q.1 = some (oW (mC q.2))
def ThL (α : AM) : Lf → Prop
  | ((p, r), o, row, c) => α p = some (oW (cO 3 [.int o, .ref r])) ∧ α r = some (oR row c)
def ThN (α : AM) {h : Nat} (f : PT h → Prop) : Nd (PT h) → Prop
  | ((p, cp, cl), o, ks, ls, c1, c2) => α p = some (oW (cO 11 [.int o, .ref cp, .ref cl])) ∧ α cp = some (oP (kA ks) c1) ∧ α cl = some (oL (ls.map (·.1)) c2) ∧ allQ α ls ∧ ∀ c ∈ ks, f c.2.2
def Th (α : AM) : (h : Nat) → PT h → Prop
  | 0, t => ThL α t
  | h + 1, t => ThN α (Th α h) t
/-- a message of ranges -/
def isR (m : Msg) : Bool := m.1 == 1 || m.1 == 4
def okM (m : Msg) : Prop := m.2.1 ≤ m.2.2.1 ∧ (isR m = false → m.2.1 = m.2.2.1)
/-- children that cover the keys from a to b -/
def chn {X : Type} : Int → Int → List (Int32 × Int32 × X) → Prop
  | a, b, [] => a = b + 1
  | a, b, c :: t => c.1.toInt = a ∧ c.1.toInt ≤ c.2.1.toInt ∧ chn (c.2.1.toInt + 1) b t
def lsOk (lo hi : Int32) (ls : List (Nat × Msg)) : Prop := ∀ q ∈ ls, okM q.2 ∧ lo ≤ q.2.2.1 ∧ q.2.2.2.1 ≤ hi
def WfL (lo hi : Int32) : Lf → Prop
  | (_, _, row, c) => srt row ∧ (∀ q ∈ row, lo ≤ q.1 ∧ q.1 ≤ hi) ∧ row.length ≤ 16 ∧ pw c ∧ c ≤ 20000
def WfN {X : Type} (lo hi : Int32) (f : X → Int32 → Int32 → Prop) : Nd X → Prop
  | (_, _, ks, ls, c1, c2) => 1 ≤ ks.length ∧ ks.length ≤ 8 ∧ chn lo.toInt hi.toInt ks ∧ ls.length ≤ 24 ∧ lsOk lo hi ls ∧ 4 ≤ c1 ∧ c1 ≤ 20000 ∧ 8 ≤ c2 ∧ c2 ≤ 20000 ∧ ∀ c ∈ ks, f c.2.2 c.1 c.2.1
def Wf : (h : Nat) → PT h → Int32 → Int32 → Prop
  | 0, t, lo, hi => WfL lo hi t
  | h + 1, t, lo, hi => WfN lo hi (Wf h) t
/-- what a message makes of what a key has -/
def eff (m : Msg) (x : Int32) (o : Option Int64) : Option Int64 := if m.2.1 ≤ x ∧ x ≤ m.2.2.1 then app1 m o else o
def effs (ms : List Msg) (x : Int32) (o : Option Int64) : Option Int64 := ms.foldl (fun o m => eff m x o) o
def kin {X : Type} (x : Int32) (c : Int32 × Int32 × X) : Bool := decide (c.1 ≤ x) && decide (x ≤ c.2.1)
def dnk {X : Type} (f : X → Int32 → Option Int64) (ks : List (Int32 × Int32 × X)) (x : Int32) : Option Int64 := match ks.find? (kin x) with
  | some c => f c.2.2 x
  | none => none
def denL (x : Int32) : Lf → Option Int64
  | (_, _, row, _) => lkp row x
def denN {X : Type} (f : X → Int32 → Option Int64) (x : Int32) : Nd X → Option Int64
  | (_, _, ks, ls, _, _) => effs (ls.map (·.2)) x (dnk f ks x)
/-- what a key has in a tree -/
def den : (h : Nat) → PT h → Int32 → Option Int64
  | 0, t, x => denL x t
  | h + 1, t, x => denN (den h) x t
def ksum {X : Type} (f : X → Nat) (ks : List X) : Nat := (ks.map f).sum
def puts (ls : List (Nat × Msg)) : Nat := ls.countP (fun q => !isR q.2)
def wtL : Lf → Nat
  | (_, _, row, _) => max 8 row.length
def wtN {X : Type} (f : X → Nat) : Nd X → Nat
  | (_, _, ks, ls, _, _) => ksum (fun c => f c.2.2) ks + puts ls
/-- weight: pairs (8 at least for a leaf) and messages of one key -/
def wt : (h : Nat) → PT h → Nat
  | 0, t => wtL t
  | h + 1, t => wtN (wt h) t
def nLN {X : Type} (f : X → Nat) : Nd X → Nat
  | (_, _, ks, _, _, _) => ksum (fun c => f c.2.2) ks
def nL : (h : Nat) → PT h → Nat
  | 0, _ => 1
  | h + 1, t => nLN (nL h) t
def nInn : (h : Nat) → PT h → Nat
  | 0, _ => 0
  | h + 1, t => 1 + nLN (nInn h) t
def gdN {X : Type} (f : X → Prop) : Nd X → Prop
  | (_, _, ks, _, _, _) => 4 ≤ ks.length ∧ ∀ c ∈ ks, f c.2.2
/-- four children at least, all through -/
def gd : (h : Nat) → PT h → Prop
  | 0, _ => True
  | h + 1, t => gdN (gd h) t
def glN {X : Type} (f e : X → Prop) : Nd X → Prop
  | (_, _, ks, _, _, _) => (∀ c ∈ ks.dropLast, f c.2.2) ∧ ∀ c ∈ ks, e c.2.2
/-- all but the last of a level so -/
def gl : (h : Nat) → PT h → Prop
  | 0, _ => True
  | h + 1, t => glN (gd h) (gl h) t
def ownL (now : Int32) : Lf → List Nat
  | ((p, r), o, _, _) => if o = now then [p, r] else []
def ownN {X : Type} (now : Int32) (f : X → List Nat) : Nd X → List Nat
  | ((p, cp, cl), o, ks, _, _, _) => (if o = now then [p, cp, cl] else []) ++ ks.flatMap (fun c => f c.2.2)
/-- addresses of the pages that are owned now, and of their rows -/
def ownT (now : Int32) : (h : Nat) → PT h → List Nat
  | 0, t => ownL now t
  | h + 1, t => ownN now (ownT now h) t
def frzL (now : Int32) : Lf → Prop
  | (_, o, _, _) => o ≠ now
def frzN {X : Type} (now : Int32) (f : X → Prop) : Nd X → Prop
  | (_, o, ks, _, _, _) => o ≠ now ∧ ∀ c ∈ ks, f c.2.2
def frz (now : Int32) : (h : Nat) → PT h → Prop
  | 0, t => frzL now t
  | h + 1, t => frzN now (frz now h) t
def inFL (Fz : Nat → Prop) (now : Int32) : Lf → Prop
  | ((p, r), o, _, _) => o.toInt ≤ now.toInt ∧ (o ≠ now → Fz p ∧ Fz r)
def inFN {X : Type} (Fz : Nat → Prop) (now : Int32) (e f : X → Prop) : Nd X → Prop
  | ((p, cp, cl), o, ks, _, _, _) => o.toInt ≤ now.toInt ∧ (o ≠ now → Fz p ∧ Fz cp ∧ Fz cl ∧ ∀ c ∈ ks, e c.2.2) ∧ ∀ c ∈ ks, f c.2.2
/-- what isn't owned now is among the frozen -/
def inF (Fz : Nat → Prop) (now : Int32) : (h : Nat) → PT h → Prop
  | 0, t => inFL Fz now t
  | h + 1, t => inFN Fz now (frz now h) (inF Fz now h) t
def allL : Lf → List Nat
  | ((p, r), _, _, _) => [p, r]
def allN {X : Type} (f : X → List Nat) : Nd X → List Nat
  | ((p, cp, cl), _, ks, _, _, _) => [p, cp, cl] ++ ks.flatMap (fun c => f c.2.2)
/-- addresses of all its pages and of their rows -/
def allT : (h : Nat) → PT h → List Nat
  | 0, t => allL t
  | h + 1, t => allN (allT h) t
/-- what lies at such addresses -/
def isTr : AO → Prop
  | .inl _ => True
  | .inr (.inl _) => True
  | .inr (.inr (.inl _)) => True
  | .inr (.inr (.inr (.inl (c, _)))) => c = 3 ∨ c = 11
  | .inr (.inr (.inr (.inr _))) => False
section TRE
variable {α α' : AM} {Fz : Nat → Prop} {now : Int32}
theorem allQ.kept {qs : List (Nat × Msg)} (h : allQ α qs) (h3 : ∀ x m, α x = some (oW (mC m)) → α' x = some (oW (mC m))) : allQ α' qs := fun q hq => h3 _ _ (h q hq)
theorem Th.kept : ∀ (h : Nat) (t : PT h), Th α h t → inF Fz now h t → (∀ x o, x ∈ ownT now h t → α x = some o → α' x = some o) → (∀ x o, Fz x → α x = some o → α' x = some o) → (∀ x m, α x = some (oW (mC m)) → α' x = some (oW (mC m))) → Th α' h t := by
  intro h
  induction h with
  | zero =>
    intro t hT hF h1 h2 h3
    obtain ⟨⟨p, r⟩, o, row, c⟩ := t
    obtain ⟨q1, q2⟩ := hT
    obtain ⟨f1, f2⟩ := hF
    by_cases e : o = now
    · have ho : ownT now 0 ((p, r), o, row, c) = [p, r] := if_pos e
      exact ⟨h1 _ _ (by rw [ho]; simp) q1, h1 _ _ (by rw [ho]; simp) q2⟩
    · exact ⟨h2 _ _ (f2 e).1 q1, h2 _ _ (f2 e).2 q2⟩
  | succ h ih =>
    intro t hT hF h1 h2 h3
    obtain ⟨⟨p, cp, cl⟩, o, ks, ls, c1, c2⟩ := t
    obtain ⟨q1, q2, q3, q4, q5⟩ := hT
    obtain ⟨f1, f2, f3⟩ := hF
    have hk : ∀ c ∈ ks, Th α' h c.2.2 := fun c hc => ih c.2.2 (q5 c hc) (f3 c hc) (fun x o' hx ho => h1 x o' (List.mem_append_right _ (List.mem_flatMap.mpr ⟨c, hc, hx⟩)) ho) h2 h3
    by_cases e : o = now
    · have ho : ∀ x, x ∈ [p, cp, cl] → x ∈ ownT now (h + 1) ((p, cp, cl), o, ks, ls, c1, c2) := fun x hx => List.mem_append_left _ (by
        show x ∈ (if o = now then [p, cp, cl] else [])
        rw [if_pos e]; exact hx)
      exact ⟨h1 _ _ (ho _ (by simp)) q1, h1 _ _ (ho _ (by simp)) q2, h1 _ _ (ho _ (by simp)) q3, q4.kept h3, hk⟩
    · exact ⟨h2 _ _ (f2 e).1 q1, h2 _ _ (f2 e).2.1 q2, h2 _ _ (f2 e).2.2.1 q3, q4.kept h3, hk⟩
theorem Th.all_at : ∀ (h : Nat) (t : PT h), Th α h t → ∀ x ∈ allT h t, ∃ o, α x = some o ∧ isTr o := by
  intro h
  induction h with
  | zero =>
    intro t hT x hx
    obtain ⟨⟨p, r⟩, o, row, c⟩ := t
    obtain ⟨q1, q2⟩ := hT
    rcases List.mem_cons.mp hx with e | hx
    · subst e; exact ⟨_, q1, Or.inl rfl⟩
    · rw [List.mem_singleton.mp hx]; exact ⟨_, q2, trivial⟩
  | succ h ih =>
    intro t hT x hx
    obtain ⟨⟨p, cp, cl⟩, o, ks, ls, c1, c2⟩ := t
    obtain ⟨q1, q2, q3, q4, q5⟩ := hT
    rcases List.mem_append.mp hx with hx2 | hx'
    · rcases List.mem_cons.mp hx2 with e | hx2
      · subst e; exact ⟨_, q1, Or.inr rfl⟩
      · rcases List.mem_cons.mp hx2 with e | hx2
        · subst e; exact ⟨_, q2, trivial⟩
        · rw [List.mem_singleton.mp hx2]; exact ⟨_, q3, trivial⟩
    · obtain ⟨c, hc, hx3⟩ := List.mem_flatMap.mp hx'
      exact ih c.2.2 (q5 c hc) x hx3
theorem Th.keptT : ∀ (h : Nat) (t : PT h), Th α h t → (∀ x o, x ∈ allT h t → α x = some o → α' x = some o) → (∀ x m, α x = some (oW (mC m)) → α' x = some (oW (mC m))) → Th α' h t := by
  intro h
  induction h with
  | zero =>
    intro t hT h1 h3
    obtain ⟨⟨p, r⟩, o, row, c⟩ := t
    obtain ⟨q1, q2⟩ := hT
    exact ⟨h1 _ _ (by simp [allT, allL]) q1, h1 _ _ (by simp [allT, allL]) q2⟩
  | succ h ih =>
    intro t hT h1 h3
    obtain ⟨⟨p, cp, cl⟩, o, ks, ls, c1, c2⟩ := t
    obtain ⟨q1, q2, q3, q4, q5⟩ := hT
    exact ⟨h1 _ _ (List.mem_append_left _ (by simp)) q1, h1 _ _ (List.mem_append_left _ (by simp)) q2, h1 _ _ (List.mem_append_left _ (by simp)) q3, q4.kept h3, fun c hc => ih c.2.2 (q5 c hc) (fun x o' hx ho => h1 x o' (List.mem_append_right _ (List.mem_flatMap.mpr ⟨c, hc, hx⟩)) ho) h3⟩
theorem ownT_all : ∀ (h : Nat) (t : PT h) (x : Nat), x ∈ ownT now h t → x ∈ allT h t := by
  intro h
  induction h with
  | zero =>
    intro t x hx
    obtain ⟨⟨p, r⟩, o, row, c⟩ := t
    have hx' : x ∈ (if o = now then [p, r] else []) := hx
    split at hx'
    · exact hx'
    · cases hx'
  | succ h ih =>
    intro t x hx
    obtain ⟨⟨p, cp, cl⟩, o, ks, ls, c1, c2⟩ := t
    rcases List.mem_append.mp hx with hx' | hx'
    · have hx2 : x ∈ (if o = now then [p, cp, cl] else []) := hx'
      split at hx2
      · exact List.mem_append_left _ hx2
      · cases hx2
    · obtain ⟨c, hc, hx3⟩ := List.mem_flatMap.mp hx'
      exact List.mem_append_right _ (List.mem_flatMap.mpr ⟨c, hc, ih c.2.2 x hx3⟩)
theorem allT_or : ∀ (h : Nat) (t : PT h) (x : Nat), inF Fz now h t → x ∈ allT h t → x ∈ ownT now h t ∨ Fz x := by
  intro h
  induction h with
  | zero =>
    intro t x hF hx
    obtain ⟨⟨p, r⟩, o, row, c⟩ := t
    by_cases e : o = now
    · left
      show x ∈ (if o = now then [p, r] else [])
      rw [if_pos e]; exact hx
    · right
      rcases List.mem_cons.mp hx with e' | hx
      · subst e'; exact (hF.2 e).1
      · rw [List.mem_singleton.mp hx]; exact (hF.2 e).2
  | succ h ih =>
    intro t x hF hx
    obtain ⟨⟨p, cp, cl⟩, o, ks, ls, c1, c2⟩ := t
    rcases List.mem_append.mp hx with hx' | hx'
    · by_cases e : o = now
      · left
        refine List.mem_append_left _ ?_
        rw [if_pos e]; exact hx'
      · right
        have hf := hF.2.1 e
        rcases List.mem_cons.mp hx' with e' | hx2
        · subst e'; exact hf.1
        · rcases List.mem_cons.mp hx2 with e' | hx2
          · subst e'; exact hf.2.1
          · rw [List.mem_singleton.mp hx2]; exact hf.2.2.1
    · obtain ⟨c, hc, hx3⟩ := List.mem_flatMap.mp hx'
      rcases ih c.2.2 x (hF.2.2 c hc) hx3 with h1 | h1
      · exact Or.inl (List.mem_append_right _ (List.mem_flatMap.mpr ⟨c, hc, h1⟩))
      · exact Or.inr h1
/-- pages in memory -/
theorem Th.pg : ∀ {h : Nat} {t : PT h}, Th α h t → isPg α (adr h t) := by
  intro h
  cases h with
  | zero => intro t hT; exact Or.inl ⟨_, hT.1⟩
  | succ h => intro t hT; exact Or.inr ⟨_, hT.1⟩
theorem frz.own : ∀ (h : Nat) (t : PT h), frz now h t → ownT now h t = [] := by
  intro h
  induction h with
  | zero => intro t hf; exact if_neg hf
  | succ h ih =>
    intro t hf
    obtain ⟨⟨p, cp, cl⟩, o, ks, ls, c1, c2⟩ := t
    show (if o = now then [p, cp, cl] else []) ++ ks.flatMap (fun c => ownT now h c.2.2) = []
    rw [if_neg hf.1, List.nil_append, List.flatMap_eq_nil_iff]
    intro c hc
    exact ih c.2.2 (hf.2 c hc)
/-- what is at an owned address: a page or a container -/
theorem Th.own_at : ∀ (h : Nat) (t : PT h), Th α h t → ∀ x ∈ ownT now h t, ∃ o, α x = some o ∧ ∀ m, o ≠ oW (mC m) := by
  intro h
  induction h with
  | zero =>
    intro t hT x hx
    obtain ⟨⟨p, r⟩, o, row, c⟩ := t
    obtain ⟨q1, q2⟩ := hT
    have hx' : x ∈ (if o = now then [p, r] else []) := hx
    split at hx'
    · rcases List.mem_cons.mp hx' with e | hx'
      · subst e; exact ⟨_, q1, fun m h => by cases h⟩
      · rw [List.mem_singleton.mp hx']; exact ⟨_, q2, fun m h => by cases h⟩
    · cases hx'
  | succ h ih =>
    intro t hT x hx
    obtain ⟨⟨p, cp, cl⟩, o, ks, ls, c1, c2⟩ := t
    obtain ⟨q1, q2, q3, q4, q5⟩ := hT
    rcases List.mem_append.mp hx with hx' | hx'
    · have hx2 : x ∈ (if o = now then [p, cp, cl] else []) := hx'
      split at hx2
      · rcases List.mem_cons.mp hx2 with e | hx2
        · subst e; exact ⟨_, q1, fun m h => by cases h⟩
        · rcases List.mem_cons.mp hx2 with e | hx2
          · subst e; exact ⟨_, q2, fun m h => by cases h⟩
          · rw [List.mem_singleton.mp hx2]; exact ⟨_, q3, fun m h => by cases h⟩
      · cases hx2
    · obtain ⟨c, hc, hx3⟩ := List.mem_flatMap.mp hx'
      exact ih c.2.2 (q5 c hc) x hx3
/-! children that cover -/
theorem chn.app {X : Type} : ∀ {l1 l2 : List (Int32 × Int32 × X)} {a b : Int}, chn a b (l1 ++ l2) ↔ ∃ m, chn a m l1 ∧ chn (m + 1) b l2 := by
  intro l1
  induction l1 with
  | nil =>
    intro l2 a b
    constructor
    · intro h; exact ⟨a - 1, by show a = a - 1 + 1; omega, by rw [show a - 1 + 1 = a by omega]; exact h⟩
    · rintro ⟨m, h1, h2⟩
      have h1' : a = m + 1 := h1
      rw [h1']; exact h2
  | cons c t ih =>
    intro l2 a b
    constructor
    · rintro ⟨h1, h2, h3⟩
      obtain ⟨m, q1, q2⟩ := ih.mp h3
      exact ⟨m, ⟨h1, h2, q1⟩, q2⟩
    · rintro ⟨m, ⟨h1, h2, h3⟩, q2⟩
      exact ⟨h1, h2, ih.mpr ⟨m, h3, q2⟩⟩
theorem chn.le {X : Type} : ∀ {l : List (Int32 × Int32 × X)} {a b : Int}, chn a b l → a ≤ b + 1 := by
  intro l
  induction l with
  | nil => intro a b h; exact Int.le_of_eq h
  | cons c t ih => rintro a b ⟨h1, h2, h3⟩; have := ih h3; omega
theorem chn.mem {X : Type} : ∀ {l : List (Int32 × Int32 × X)} {a b : Int}, chn a b l → ∀ c ∈ l, a ≤ c.1.toInt ∧ c.1.toInt ≤ c.2.1.toInt ∧ c.2.1.toInt ≤ b := by
  intro l
  induction l with
  | nil => intro a b h c hc; cases hc
  | cons c t ih =>
    rintro a b ⟨h1, h2, h3⟩ c' hc'
    rcases List.mem_cons.mp hc' with e | hc'
    · subst e; have := h3.le; omega
    · have := ih h3 c' hc'; omega
/-- the child that has a key -/
theorem chn.find {X : Type} : ∀ {l : List (Int32 × Int32 × X)} {a b : Int} {x : Int32}, chn a b l → a ≤ x.toInt → x.toInt ≤ b → ∃ c ∈ l, l.find? (kin x) = some c ∧ c.1.toInt ≤ x.toInt ∧ x.toInt ≤ c.2.1.toInt := by
  intro l
  induction l with
  | nil => intro a b x h h1 h2; have h' : a = b + 1 := h; omega
  | cons c t ih =>
    rintro a b x ⟨h1, h2, h3⟩ h4 h5
    by_cases e : x.toInt ≤ c.2.1.toInt
    · refine ⟨c, List.mem_cons_self, ?_, by omega, e⟩
      rw [List.find?_cons_of_pos]
      unfold kin
      rw [Bool.and_eq_true, decide_eq_true_iff, decide_eq_true_iff, i_le, i_le]
      omega
    · obtain ⟨c', q1, q2, q3⟩ := ih (x := x) h3 (by omega) h5
      refine ⟨c', List.mem_cons_of_mem _ q1, ?_, q3⟩
      rw [List.find?_cons_of_neg, q2]
      unfold kin
      rw [Bool.and_eq_true, decide_eq_true_iff, decide_eq_true_iff, i_le, i_le]
      omega
theorem kin_iff {X : Type} {x : Int32} {c : Int32 × Int32 × X} : kin x c = true ↔ c.1.toInt ≤ x.toInt ∧ x.toInt ≤ c.2.1.toInt := by
  unfold kin
  rw [Bool.and_eq_true, decide_eq_true_iff, decide_eq_true_iff, i_le, i_le]
theorem chn.nofind {X : Type} {l : List (Int32 × Int32 × X)} {a b : Int} {x : Int32} (h : chn a b l) (hx : x.toInt < a ∨ b < x.toInt) : l.find? (kin x) = none := by
  rw [List.find?_eq_none]
  intro c hc hk
  have := h.mem c hc
  rw [kin_iff] at hk
  omega
theorem ksum_app {X : Type} {f : X → Nat} {l1 l2 : List X} : ksum f (l1 ++ l2) = ksum f l1 + ksum f l2 := by simp [ksum]
theorem ksum_cons {X : Type} {f : X → Nat} {c : X} {l : List X} : ksum f (c :: l) = f c + ksum f l := by simp [ksum]
theorem ksum_nil {X : Type} {f : X → Nat} : ksum f ([] : List X) = 0 := by simp [ksum]
theorem ksum_le {X : Type} {f g : X → Nat} {l : List X} (h : ∀ c ∈ l, f c ≤ g c) : ksum f l ≤ ksum g l := by
  induction l with
  | nil => simp [ksum]
  | cons c t ih =>
    rw [ksum_cons, ksum_cons]
    have := h c List.mem_cons_self
    have := ih (fun c hc => h c (List.mem_cons_of_mem _ hc))
    omega
theorem ksum_eq {X : Type} {f g : X → Nat} {l : List X} (h : ∀ c ∈ l, f c = g c) : ksum f l = ksum g l := by
  unfold ksum
  rw [List.map_congr_left h]
theorem ksum_mem {X : Type} {f : X → Nat} {l : List X} {c : X} (h : c ∈ l) : f c ≤ ksum f l := by
  induction l with
  | nil => cases h
  | cons q t ih =>
    rw [ksum_cons]
    rcases List.mem_cons.mp h with e | h
    · subst e; omega
    · have := ih h; omega
end TRE
