/-! HELP: rules for counts (nI), indices, memories -/
set_option maxRecDepth 100000
section HP
variable {g : Cx} {l : Launch} {M : MI} {d : Nat} {Q : Outcome → Mem → Nat → Nat → Prop} {pc : Nat} {L : List (Nat × Value)} {st : List Value} {μ : Mem} {k n : Nat}
theorem b_iaddN {a b : Nat} (hd : decode M.2.1 pc = .ok (.iadd, 1)) (kk : bB g l M d Q (pc + 1) L (.int (nI (a + b)) :: st) μ k n) : bB g l M d Q pc L (.int (nI b) :: .int (nI a) :: st) μ k n :=
  b_iadd hd (by rw [nI_add]; exact kk)
theorem b_isubN {a b : Nat} (hd : decode M.2.1 pc = .ok (.isub, 1)) (h : b ≤ a) (kk : bB g l M d Q (pc + 1) L (.int (nI (a - b)) :: st) μ k n) : bB g l M d Q pc L (.int (nI b) :: .int (nI a) :: st) μ k n :=
  b_isub hd (by rw [pk_sub h]; exact kk)
theorem b_imulN {a b : Nat} (hd : decode M.2.1 pc = .ok (.imul, 1)) (kk : bB g l M d Q (pc + 1) L (.int (nI (a * b)) :: st) μ k n) : bB g l M d Q pc L (.int (nI b) :: .int (nI a) :: st) μ k n :=
  b_imul hd (by rw [pk_mul]; exact kk)
theorem b_iaddK {a c : Nat} {x : Int32} (hd : decode M.2.1 pc = .ok (.iadd, 1)) (hx : x = nI c) (kk : bB g l M d Q (pc + 1) L (.int (nI (a + c)) :: st) μ k n) : bB g l M d Q pc L (.int x :: .int (nI a) :: st) μ k n := by
  subst hx
  exact b_iaddN hd kk
theorem b_isubK {a c : Nat} {x : Int32} (hd : decode M.2.1 pc = .ok (.isub, 1)) (hx : x = nI c) (h : c ≤ a) (kk : bB g l M d Q (pc + 1) L (.int (nI (a - c)) :: st) μ k n) : bB g l M d Q pc L (.int x :: .int (nI a) :: st) μ k n := by
  subst hx
  exact b_isubN hd h kk
theorem b_imulK {a c : Nat} {x : Int32} (hd : decode M.2.1 pc = .ok (.imul, 1)) (hx : x = nI c) (kk : bB g l M d Q (pc + 1) L (.int (nI (a * c)) :: st) μ k n) : bB g l M d Q pc L (.int x :: .int (nI a) :: st) μ k n := by
  subst hx
  exact b_imulN hd kk
theorem b_idivN {a b : Nat} (hd : decode M.2.1 pc = .ok (.idiv, 1)) (ha : a < 2 ^ 31) (h0 : 0 < b) (hb : b < 2 ^ 31) (kk : bB g l M d Q (pc + 1) L (.int (nI (a / b)) :: st) μ k n) : bB g l M d Q pc L (.int (nI b) :: .int (nI a) :: st) μ k n :=
  b_idiv hd (nI_ne0 h0 hb) (by rw [pk_div ha h0 hb]; exact kk)
theorem b_iincN {j a : Nat} (hd : decode M.2.1 pc = .ok (.iinc j 1, 3)) (e : lo L j = some (.int (nI a))) (hn : j < M.2.2.1) (kk : bB g l M d Q (pc + 3) (lset L j (.int (nI (a + 1)))) st μ k n) : bB g l M d Q pc L st μ k n :=
  b_iinc hd e (show nI a + Int32.ofInt 1 = nI (a + 1) from nI_1 a) hn kk
theorem b_iinc1 {j : Nat} {x : Int32} (hd : decode M.2.1 pc = .ok (.iinc j 1, 3)) (e : lo L j = some (.int x)) (hn : j < M.2.2.1) (kk : bB g l M d Q (pc + 3) (lset L j (.int (x + 1))) st μ k n) : bB g l M d Q pc L st μ k n :=
  b_iinc hd e (show x + Int32.ofInt 1 = x + 1 from rfl) hn kk
theorem b_iincM {j a : Nat} (hd : decode M.2.1 pc = .ok (.iinc j (-1), 3)) (e : lo L j = some (.int (nI (a + 1)))) (hn : j < M.2.2.1) (kk : bB g l M d Q (pc + 3) (lset L j (.int (nI a))) st μ k n) : bB g l M d Q pc L st μ k n :=
  b_iinc hd e (show nI (a + 1) + Int32.ofInt (-1) = nI a from pk_m1 a) hn kk
theorem b_iushrN {a : Nat} (hd : decode M.2.1 pc = .ok (.iushr, 1)) (ha : a < 2 ^ 32) (kk : bB g l M d Q (pc + 1) L (.int (nI (a / 2)) :: st) μ k n) : bB g l M d Q pc L (.int 1 :: .int (nI a) :: st) μ k n :=
  b_iushr hd (pk_ushrN ha 1 1 (by decide)) kk
/-- the operand's top under another name -/
theorem bB.top {v v' : Value} (h : v = v') (kk : bB g l M d Q pc L (v' :: st) μ k n) : bB g l M d Q pc L (v :: st) μ k n := h ▸ kk
theorem bB.stk {st' : List Value} (h : st = st') (kk : bB g l M d Q pc L st' μ k n) : bB g l M d Q pc L st μ k n := h ▸ kk
theorem bB.mem {μ' : Mem} (h : μ = μ') (kk : bB g l M d Q pc L st μ' k n) : bB g l M d Q pc L st μ k n := h ▸ kk
theorem bB.cre {k' n' : Nat} (h : k = k') (h2 : n = n') (kk : bB g l M d Q pc L st μ k' n') : bB g l M d Q pc L st μ k n := h ▸ h2 ▸ kk
/-- the answer v, nothing changed -/
def ansQ (v : Option Value) (μ : Mem) (k n : Nat) : Outcome → Mem → Nat → Nat → Prop := fun o μ' k' n' => o = .returned v ∧ μ' = μ ∧ k' = k ∧ n' = n
theorem ansQ.ret {v : Option Value} {μ : Mem} {k n : Nat} {o : Outcome} {μ' : Mem} {k' n' : Nat} (h : ansQ v μ k n o μ' k' n') : ∃ v, o = .returned v := ⟨v, h.1⟩
theorem ansQ.mk {v : Option Value} {μ : Mem} {k n : Nat} : ansQ v μ k n (.returned v) μ k n := ⟨rfl, rfl, rfl, rfl⟩
theorem b_callA {i : Instr} {na d' : Nat} {rc : Option Nat} {M' : MI} {As rest : List Value} {x : Value} (hs : Site M.1.cls i na rc M') (hd : decode M.2.1 pc = .ok (i, 3)) (hst : st = As.reverse ++ rest) (hna : As.length = na) (hrc : ∀ ci, rc = some ci → ∃ b As' fs, As = .ref b :: As' ∧ μ b = some (cO ci fs))
    (hm : Ms g l d' k n M' As μ (ansQ (some x) μ k n)) (hd1 : d' + 1 ≤ d) (hW : (rest.map fun v => v.category).sum ≤ 8) (kk : bB g l M d Q (pc + 3) L (x :: rest) μ k n) : bB g l M d Q pc L st μ k n := by
  refine b_call hs hd hst hna hrc hm (fun _ _ _ _ h => h.ret) hd1 hW (fun v μ' k' n' _ _ hQ => ?_)
  obtain ⟨hv, rfl, rfl, rfl⟩ := hQ
  cases hv
  exact kk
theorem b_callA0 {i : Instr} {na d' : Nat} {rc : Option Nat} {M' : MI} {As rest : List Value} (hs : Site M.1.cls i na rc M') (hd : decode M.2.1 pc = .ok (i, 3)) (hst : st = As.reverse ++ rest) (hna : As.length = na) (hrc : ∀ ci, rc = some ci → ∃ b As' fs, As = .ref b :: As' ∧ μ b = some (cO ci fs))
    (hm : Ms g l d' k n M' As μ (ansQ none μ k n)) (hd1 : d' + 1 ≤ d) (hW : (rest.map fun v => v.category).sum ≤ 8) (kk : bB g l M d Q (pc + 3) L rest μ k n) : bB g l M d Q pc L st μ k n := by
  refine b_call hs hd hst hna hrc hm (fun _ _ _ _ h => h.ret) hd1 hW (fun v μ' k' n' _ _ hQ => ?_)
  obtain ⟨hv, rfl, rfl, rfl⟩ := hQ
  cases hv
  exact kk
end HP
theorem ix_D {α : Type} {l : List α} {j : Nat} {z : α} (h : j < l.length) (h2 : l.length < 2 ^ 31) : ix l (nI j) = some (l.getD j z) := by
  rw [ix_n (by omega)]
  simp [List.getD, h]
theorem ne_cc {μ : Mem} {a b : Nat} {c c' : Cel} (h1 : μ a = some c) (h2 : μ b = some c') (h : c ≠ c') : a ≠ b := by
  intro e
  subst e
  rw [h1] at h2
  exact h (Option.some.inj h2)
theorem ne_fr {μ : Mem} {a b : Nat} {c : Cel} (h1 : μ a = none) (h2 : μ b = some c) : a ≠ b := by
  intro e
  subst e
  rw [h1] at h2
  cases h2
theorem mset2 {μ : Mem} {a : Nat} {c c' : Cel} : mset (mset μ a c) a c' = mset μ a c' := by
  funext q
  unfold mset
  by_cases h : q = a <;> simp [h]
theorem msetC {μ : Mem} {a b : Nat} {c c' : Cel} (h : a ≠ b) : mset (mset μ a c) b c' = mset (mset μ b c') a c := by
  funext q
  unfold mset
  by_cases h1 : q = a
  · subst h1
    simp [h]
  · simp [h1]
theorem mset_id {μ : Mem} {a : Nat} {c : Cel} (h : μ a = some c) : mset μ a c = μ := by
  funext q
  unfold mset
  by_cases h1 : q = a
  · subst h1
    simp [h]
  · simp [h1]
/-! Int32 order through integers -/
theorem i_lt {x y : Int32} : x < y ↔ x.toInt < y.toInt := Int32.lt_iff_toInt_lt
theorem i_le {x y : Int32} : x ≤ y ↔ x.toInt ≤ y.toInt := Int32.le_iff_toInt_le
theorem i_eq {x y : Int32} : x = y ↔ x.toInt = y.toInt := Int32.toInt_inj.symm
