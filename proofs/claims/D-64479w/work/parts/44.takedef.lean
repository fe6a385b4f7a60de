/-! Page.take, Page.settle: what they leave -/
set_option maxRecDepth 100000
def not0 (kd : Nat) : Prop := kd ≠ 0
/-- credit for Work's letters and pages from a depth on -/
def Wt (w : WS) : Nat → Nat → Nat
  | 0, d => psiK 3 (w.2.2 3 d)
  | h + 1, d => psiK 1 (w.2.2 1 d) + (psiK 2 (w.2.2 2 d) + (psiK 3 (w.2.2 3 d) + Wt w h (d + 1)))
def ownF (now : Int32) (h : Nat) (ts : List (Kid h)) : List Nat := ts.flatMap (fun c => ownT now h c.2.2)
def gls {h : Nat} (ts : List (Kid h)) : Prop := (∀ c ∈ ts.dropLast, gd h c.2.2) ∧ ∀ c ∈ ts, gl h c.2.2
/-- what a page and all about it must be -/
def PreT (α : AM) (Fz : Nat → Prop) (now lo hi : Int32) (w : WS) (dp h : Nat) (t : PT h) : Prop :=
  Th α h t ∧ Wf h t lo hi ∧ lo.toInt ≤ hi.toInt ∧ inF Fz now h t ∧ (ownT now h t).Nodup ∧ (∀ x ∈ ownT now h t, ¬ Fz x) ∧ (∀ x, Fz x → ∃ o, α x = some o) ∧ WK α w dp ∧ dp + h ≤ 15 ∧ (∀ x ∈ ownT now h t, ¬ wFp w dp x) ∧ (∀ x, Fz x → ¬ wFp w dp x)
/-- the pages that it is then -/
def Rst (α : AM) (Fz : Nat → Prop) (now lo hi : Int32) (w : WS) (dp h : Nat) (t : PT h) (f : Int32 → Option Int64) (wB xB : Nat) (α' : AM) (w' : WS) (ca cc : Nat) (ts : List (Kid h)) : Prop :=
  w'.2.2 3 dp = some (ca, cc) ∧ α' ca = some (oP (kA ts) cc) ∧ 1 ≤ ts.length ∧ chn lo.toInt hi.toInt ts ∧ (∀ c ∈ ts, Th α' h c.2.2) ∧ wfK ts ∧ (∀ c ∈ ts, inF Fz now h c.2.2) ∧ (ownF now h ts).Nodup ∧ (∀ x ∈ ownF now h ts, x ∈ ownT now h t ∨ α x = none) ∧ (∀ x ∈ ownF now h ts, ¬ wFp w' dp x) ∧ (∀ x : Int32, lo ≤ x → x ≤ hi → dnk (den h) ts x = f x) ∧ ksum (fun c : Kid h => wt h c.2.2) ts ≤ wB ∧ (gd h t → ∀ c ∈ ts, gd h c.2.2) ∧ (gl h t → gls ts) ∧ ksum (fun c : Kid h => Xr h c.2.2) ts ≤ xB ∧ WK α' w' dp ∧ wSm α w w' not0 dp ∧ (∀ x o, α x = some o → x ∉ ownT now h t → ¬ wFp w dp x → α' x = some o) ∧ (∀ x, isPg α x → isPg α' x) ∧ ∀ x o, α x = some o → ∃ o', α' x = some o'
def mTake : Nat → MI
  | 0 => M3_take
  | _ + 1 => M11_take
theorem sTake {h : Nat} : Site RX11 (.invokevirtual 160) 7 (some (clsP h)) (mTake h) := by
  cases h with
  | zero => exact s11_160_3
  | succ h => exact s11_160_11
def mSett : Nat → MI
  | 0 => M3_settle
  | _ + 1 => M11_settle
theorem sSett {h : Nat} : Site RX11 (.invokevirtual 130) 6 (some (clsP h)) (mSett h) := by
  cases h with
  | zero => exact s11_130_3
  | succ h => exact s11_130_11
def nR (ms : List (Nat × Msg)) : Nat := ms.countP (fun q => isR q.2)
def TakS (g : Cx) (l : Launch) (h : Nat) : Prop := ∀ (d k n : Nat) (α : AM) (t : PT h) (lo hi now : Int32) (La cL : Nat) (ms : List (Nat × Msg)) (w : WS) (dp : Nat) (Fz : Nat → Prop),
  PreT α Fz now lo hi w dp h t → α La = some (oL (ms.map (·.1)) cL) → allQ α ms → lsOk lo hi ms → La ∉ ownT now h t → ¬ wFp w dp La → wt h t + puts ms ≤ 2560 → nR ms + 24 * h ≤ 200 → Pg now h t + Xr h t + inc h (lo, hi, t) ms + Wt w h dp ≤ n → n ≤ 4 * k → 2 * h + 6 ≤ d →
  aMs g l d k n (mTake h) [.ref (adr h t), .ref La, .int now, .int lo, .int hi, .ref w.1, .int (nI dp)] α (fun o α' k' n' => ∃ ca cc, o = .returned (some (.ref ca)) ∧ ∃ ts w', Rst α Fz now lo hi w dp h t (fun x => effs (ms.map (·.2)) x (den h t x)) (wt h t + puts ms) (Xr h t + ksum (incX h (lo, hi, t)) ms) α' w' ca cc ts ∧
    n + (ksum (fun c : Kid h => Pg now h c.2.2) ts + ksum (fun c : Kid h => Xr h c.2.2) ts) + 112 * (ts.length - 1) + Wt w' h dp ≤ n' + (Pg now h t + Xr h t) + inc h (lo, hi, t) ms + Wt w h dp ∧ n' ≤ 4 * k')
def SetS (g : Cx) (l : Launch) (h : Nat) : Prop := ∀ (d k n : Nat) (α : AM) (t : PT h) (lo hi now : Int32) (w : WS) (dp : Nat) (Fz : Nat → Prop),
  PreT α Fz now lo hi w dp h t → wt h t ≤ 2560 → Pg now h t + Xr h t + Wt w h dp ≤ n → n ≤ 4 * k → 2 * h + 6 ≤ d →
  aMs g l d k n (mSett h) [.ref (adr h t), .int now, .int lo, .int hi, .ref w.1, .int (nI dp)] α (fun o α' k' n' => ∃ ca cc, o = .returned (some (.ref ca)) ∧ ∃ ts w', Rst α Fz now lo hi w dp h t (den h t) (wt h t) (Xr h t) α' w' ca cc ts ∧
    n + (ksum (fun c : Kid h => Pg now h c.2.2) ts + ksum (fun c : Kid h => Xr h c.2.2) ts) + 112 * (ts.length - 1) + Wt w' h dp ≤ n' + (Pg now h t + Xr h t) + Wt w h dp ∧ n' ≤ 4 * k')
section TD
variable {α α' : AM} {w w' : WS} {d0 d1 x : Nat}
theorem WK.dom (hW : WK α w d0) (hx : wFp w d1 x) : ∃ o, α x = some o ∧ ∀ m, o ≠ oW (mC m) := by
  rcases hx with ⟨kd, hk, e⟩ | ⟨kd, j, c, hk, hj, e⟩
  · exact ⟨_, e ▸ hW.2.1 kd hk, fun m h => by cases h⟩
  · obtain ⟨c', hc'⟩ := (hW.2.2.1 kd j x c hk e).1
    obtain ⟨o, ho, hne⟩ := hc'.some
    exact ⟨o, ho, fun m => hne _⟩
theorem WK.pg (hW : WK α w d0) (hp : isPg α x) : ¬ wFp w d1 x := by
  intro hx
  rcases hx with ⟨kd, hk, e⟩ | ⟨kd, j, c, hk, hj, e⟩
  · rcases hp with ⟨fs, h⟩ | ⟨fs, h⟩ <;> (rw [e, hW.2.1 kd hk] at h; cases h)
  · obtain ⟨c', hc'⟩ := (hW.2.2.1 kd j x c hk e).1
    obtain ⟨o, ho, hne⟩ := hc'.some
    rcases hp with ⟨fs, h⟩ | ⟨fs, h⟩ <;> (rw [ho] at h; exact hne _ (Option.some.inj h))
theorem psi3 {a c : Nat} : psiK 3 (some (a, c)) = 3200 - 4 * c := rfl
theorem psi12 {a c : Nat} : psiK 1 (some (a, c)) = 17600 - 2 * c ∧ psiK 2 (some (a, c)) = 17600 - 2 * c := ⟨rfl, rfl⟩
theorem pw_16 {c : Nat} (h : pw c) : 16 ≤ c := by
  obtain ⟨j, rfl⟩ := h
  have := Nat.one_le_two_pow (n := j)
  omega
theorem pw_32 {c : Nat} (h : pw c) (h2 : c ≤ 62) : c ≤ 32 := by
  obtain ⟨j, rfl⟩ := h
  match j with
  | 0 => decide
  | 1 => decide
  | j + 2 =>
    have := Nat.one_le_two_pow (n := j)
    rw [Nat.pow_add] at h2
    omega
theorem pw_64 {c : Nat} (h : pw c) (h2 : c ≤ 126) : c ≤ 64 := by
  obtain ⟨j, rfl⟩ := h
  match j with
  | 0 => decide
  | 1 => decide
  | 2 => decide
  | j + 3 =>
    have := Nat.one_le_two_pow (n := j)
    rw [Nat.pow_add] at h2
    omega
end TD
