/-! RULES of bB on the heap -/
set_option maxRecDepth 100000
section HE
variable {g : Cx} {l : Launch} {M : MI} {d : Nat} {Q : Outcome → Mem → Nat → Nat → Prop} {pc : Nat} {L : List (Nat × Value)} {st : List Value} {μ : Mem} {k n : Nat}
/-- a class's card -/
def CI (ci : Nat) (C : String) (T : u_T) (N : Nat) (ty : Nat → FieldType) : Prop :=
  clsL[ci]? = some (C, T, N) ∧ (∀ w ∈ u_ws C T N, w ∈ lw_all) ∧ (∀ j, j < N → parseFieldDescriptor (T j).2.2.1 = some (ty j)) ∧ ∀ a, a < N → ∀ b, b < N → a ≠ b → (T a).2.1 ≠ (T b).2.1
/-- the field f of class ci, as entry idx of own's pool -/
def FL (own : String) (idx ci f : Nat) (t : FieldType) (fin : Bool) : Prop := ∃ (C : String) (T : u_T) (N : Nat) (ty : Nat → FieldType), CI ci C T N ty ∧ f < N ∧ ty f = t ∧ (T f).2.2.2 = fin ∧ ∃ ref : String, Cond.fieldLink own idx ref (T f).2.1 (T f).2.2.1 ∈ lw_all ∧ (ref = (T f).1 ∨ Cond.sameField ref (T f).1 (T f).2.1 (T f).2.2.1 ∈ lw_all)
/-- a final one, declared by own -/
def FLF (own : String) (idx ci f : Nat) (t : FieldType) : Prop := ∃ (C : String) (T : u_T) (N : Nat) (ty : Nat → FieldType), CI ci C T N ty ∧ f < N ∧ ty f = t ∧ (T f).2.2.2 = true ∧ (T f).1 = own ∧ Cond.fieldLink own idx own (T f).2.1 (T f).2.2.1 ∈ lw_all
theorem FL.same {args : Array Value} {s : State} {T : u_T} {f : Nat} {ref : String} (hts : ∀ w ∈ lw_all, w.before args s = true) (h : ref = (T f).1 ∨ Cond.sameField ref (T f).1 (T f).2.1 (T f).2.2.1 ∈ lw_all) : ∀ x, s.fieldFound? (T f).1 (T f).2.1 (T f).2.2.1 = some x → s.fieldFound? ref (T f).2.1 (T f).2.2.1 = some x := by
  rcases h with h | h
  · intro x hx; rw [h]; exact hx
  · exact fun x hx => u_same (hts _ h) x hx
theorem b_getf {idx ci f a : Nat} {t : FieldType} {fin : Bool} {fs : List Value} {v : Value} (hd : decode M.2.1 pc = .ok (.getfield idx, 3)) (hf : FL M.1.cls idx ci f t fin) (ha : μ a = some (cO ci fs)) (hv : fs[f]? = some v) (kk : bB g l M d Q (pc + 3) L (v :: st) μ k n) : bB g l M d Q pc L (.ref a :: st) μ k n := by
  intro p e R s m args below meth c H locs cells slots Z ls F hz h1 h2 hS hP hl
  obtain ⟨C, T, N, ty, ⟨c1, c2, c3, c4⟩, hN, -, -, ref, hl1, hl2⟩ := hf
  exact va_get (D := g.1) (ws := [(a, .inr (ci, fs))]) F.1 F.2.1 F.2.2.2.2.2.2.1 c2 F.2.2.2.2.2.1 F.2.2.2.2.2.2.2.1.1 (hP.one ha) 0 rfl c1 f hN (F.2.2.2.2.2.2.1 _ hl1) (FL.same F.2.2.2.2.2.2.1 hl2) hv hd (kk p e R s m args below meth c H locs cells slots Z ls F hz h1 h2 hS hP hl)
theorem mS_put {g : Cx} {H0 H H1 : Heap} {locs : List Loc} {a j : Nat} (h : va_S (gA g) H0 H locs) (z : H1.size = H.size) (oq : ∀ q : Nat, q ≠ a → H1[q]? = H[q]?) (ha : g.2.2.1 ≤ a) : va_S (gA g) H0 H1 (locs ++ [⟨a, j⟩]) := h.put z oq ha
theorem b_putf {idx ci f a : Nat} {t : FieldType} {fs : List Value} {v : Value} (hd : decode M.2.1 pc = .ok (.putfield idx, 3)) (hf : FL M.1.cls idx ci f t false) (ha : μ a = some (cO ci fs)) (hlen : f < fs.length) (hn : narrow t v = v) (hfit : fits t v = true) (kk : bB g l M d Q (pc + 3) L st (mset μ a (cO ci (fs.set f v))) k n) : bB g l M d Q pc L (v :: .ref a :: st) μ k n := by
  intro p e R s m args below meth c H locs cells slots Z ls F hz h1 h2 hS hP hl
  obtain ⟨C, T, N, ty, ⟨hc, hin, hty, hnm⟩, hk, ht, hfin, ref, hl1, hl2⟩ := hf
  have hts := F.2.2.2.2.2.2.1
  have hK := F.2.2.2.2.2.2.2.1.1
  have hap := va_apart (own := M.1.cls) hts hin ty hty hnm hK hc
  obtain ⟨⟨r, g1, cell, q1, q2, q3, q4⟩, hA⟩ := hP a _ ha
  have hr : r = (C, T, N) := Option.some.inj (g1.symm.trans hc)
  subst hr
  obtain ⟨hSl, hfc, kC, hkC, hkind⟩ := hK.1 ci _ hc
  obtain ⟨cf, kf, fi, fd, hi, hsl⟩ := hSl f hk
  have hlay := hts _ (hin _ (u_in_lay hk))
  unfold u_lay at hlay
  rw [if_neg (by rw [hfin]; decide)] at hlay
  have hst := (u_facts hfc hkC (u_lays hts hin hk) hi).1
  have h6 := u_store hfc hkC hkind hlay hi (by rw [← ht]; exact hty f hk) hn hfit
  refine W.putK F.1 F.2.1 (f := fd) ⟨F.2.2.2.2.2.1, hts _ hl1, ⟨_, _, _, FL.same hts hl2 _ hi⟩, hst⟩ (by rw [q2]; exact h6) q1 q3 (by rw [hsl]; exact k2_hasslot (q4 f hk)) rfl rfl hd fun H' e1 e2 e3 => ?_
  rw [hsl] at e1 ⊢
  exact kk p e R s m args below meth c H' _ cells slots Z ls F hz h1 h2 (mS_put hS e2 e3 hA) (hP.set hA ⟨_, hc, t_OB.to (V := updV (vp_V fs) f v) ⟨_, e1, q2, q3, t_set q4 hap hk v⟩ (fun j _ => vp_updV_set hlen v j)⟩ e3) hl
theorem b_putF {idx ci f a : Nat} {t : FieldType} {fs : List Value} {v : Value} (hd : decode M.2.1 pc = .ok (.putfield idx, 3)) (hf : FLF M.1.cls idx ci f t) (hnm1 : M.1.name = "<init>") (ha : μ a = some (cO ci fs)) (hlen : f < fs.length) (hn : narrow t v = v) (hfit : fits t v = true) (kk : bB g l M d Q (pc + 3) L st (mset μ a (cO ci (fs.set f v))) k n) : bB g l M d Q pc L (v :: .ref a :: st) μ k n := by
  intro p e R s m args below meth c H locs cells slots Z ls F hz h1 h2 hS hP hl
  obtain ⟨C, T, N, ty, ⟨hc, hin, hty, hnm⟩, hk, ht, hfin, hdecl, hl1⟩ := hf
  have hts := F.2.2.2.2.2.2.1
  have hK := F.2.2.2.2.2.2.2.1.1
  have hown := F.2.2.2.2.2.1
  have hap := va_apart (own := M.1.cls) hts hin ty hty hnm hK hc
  obtain ⟨⟨r, g1, cell, q1, q2, q3, q4⟩, hA⟩ := hP a _ ha
  have hr : r = (C, T, N) := Option.some.inj (g1.symm.trans hc)
  subst hr
  obtain ⟨hSl, hfc, kC, hkC, hkind⟩ := hK.1 ci _ hc
  obtain ⟨cf, kf, fi, fd, hi, hsl⟩ := hSl f hk
  have hlay := hts _ (hin _ (u_in_lay hk))
  unfold u_lay at hlay
  rw [if_pos hfin] at hlay
  have hst := (u_facts hfc hkC (u_lays hts hin hk) hi).1
  have hcf : m.cls = cf := by
    obtain ⟨_, _, c', _, _, _, -, -, hf', -, -, -, hown2, -⟩ := Cond.laysFinal_spec hlay
    have e1 : c' = cf := by have := hi.symm.trans hf'; simp at this; exact this.1.symm
    rw [hdecl] at hown2
    rw [← e1]; exact Option.some.inj (hown.symm.trans hown2)
  have h6 := u_fits hfc hkC hkind (Or.inr hlay) hi (by rw [← ht]; exact hty f hk) hn hfit
  refine W.putFinK F.1 F.2.1 hown (hts _ hl1) (by rw [← hdecl]; exact hi) hst hcf (F.2.2.2.2.2.2.2.2.2.2.2.1.trans hnm1) (by rw [q2]; exact h6) q1 q3 (by rw [hsl]; exact k2_hasslot (q4 f hk)) rfl rfl hd fun H' e1 e2 e3 => ?_
  rw [hsl] at e1 ⊢
  exact kk p e R s m args below meth c H' _ cells slots Z ls F hz h1 h2 (mS_put hS e2 e3 hA) (hP.set hA ⟨_, hc, t_OB.to (V := updV (vp_V fs) f v) ⟨_, e1, q2, q3, t_set q4 hap hk v⟩ (fun j _ => vp_updV_set hlen v j)⟩ e3) hl
/-! arrays -/
def ix {α : Type} (l : List α) (i : Int32) : Option α := if i < 0 then none else l[i.toNatClampNeg]?
def ixs {α : Type} (l : List α) (i : Int32) (x : α) : Option (List α) := if i < 0 ∨ l.length ≤ i.toNatClampNeg then none else some (l.set i.toNatClampNeg x)
theorem ix_n {α : Type} {l : List α} {j : Nat} (h : j < 2 ^ 31) : ix l (nI j) = l[j]? := by
  unfold ix
  rw [if_neg (nI_pos h), nI_clamp h]
theorem ixs_n {α : Type} {l : List α} {j : Nat} {x : α} (h : j < l.length) (h2 : l.length < 2 ^ 31) : ixs l (nI j) x = some (l.set j x) := by
  unfold ixs
  rw [if_neg (by rw [nI_clamp (by omega)]; rintro (q | q); exact nI_pos (by omega) q; omega), nI_clamp (by omega)]
theorem ix_in {α : Type} {l : List α} {i : Int32} {x : α} (h : ix l i = some x) : vp_in i l.length ∧ l[i.toNatClampNeg]? = some x := by
  unfold ix at h
  split at h
  · cases h
  · next h0 =>
    refine ⟨fun q => ?_, h⟩
    rcases q with q | q
    · exact h0 q
    · rw [List.getElem?_eq_none q] at h
      cases h
theorem ixs_in {α : Type} {l l' : List α} {i : Int32} {x : α} (h : ixs l i x = some l') : vp_in i l.length ∧ l' = l.set i.toNatClampNeg x := by
  unfold ixs at h
  split at h
  · cases h
  · next h0 => exact ⟨h0, (Option.some.inj h).symm⟩
theorem getD_of {α : Type} {l : List α} {j : Nat} {x z : α} (h : l[j]? = some x) : l.getD j z = x := by
  simp [List.getD, h]
theorem getD_set {α : Type} {l : List α} {j q : Nat} {x z : α} (hj : j < l.length) : (l.set j x).getD q z = if q = j then x else l.getD q z := by
  by_cases h : q = j
  · subst h; simp [List.getD, hj]
  · have h' : ¬ j = q := fun z => h z.symm
    simp [List.getD, h, h']
theorem b_iald {a : Nat} {l0 : List Int32} {i x : Int32} (hd : decode M.2.1 pc = .ok (.iaload, 1)) (ha : μ a = some (cI l0)) (hx : ix l0 i = some x) (kk : bB g l M d Q (pc + 1) L (.int x :: st) μ k n) : bB g l M d Q pc L (.int i :: .ref a :: st) μ k n := by
  intro p e R s m args below meth c H locs cells slots Z ls F hz h1 h2 hS hP hl
  obtain ⟨q1, q2⟩ := ix_in hx
  refine va_iald (D := g.1) (ws := [(a, trc g.2.1 (cI l0))]) F.1 F.2.1 F.2.2.2.2.2.2.2.1.1 (hP.one ha) 0 0 rfl (tysL_at (by decide)) q1 hd ?_
  rw [getD_of q2]
  exact kk p e R s m args below meth c H locs cells slots Z ls F hz h1 h2 hS hP hl
theorem b_zald {a : Nat} {l0 : List Int32} {i x : Int32} (hd : decode M.2.1 pc = .ok (.baload, 1)) (ha : μ a = some (cZ l0)) (hx : ix l0 i = some x) (kk : bB g l M d Q (pc + 1) L (.int x :: st) μ k n) : bB g l M d Q pc L (.int i :: .ref a :: st) μ k n := by
  intro p e R s m args below meth c H locs cells slots Z ls F hz h1 h2 hS hP hl
  obtain ⟨q1, q2⟩ := ix_in hx
  refine va_zald (D := g.1) (ws := [(a, trc g.2.1 (cZ l0))]) F.1 F.2.1 F.2.2.2.2.2.2.2.1.1 (hP.one ha) 0 2 rfl (tysL_at (by decide)) q1 hd ?_
  rw [getD_of q2]
  exact kk p e R s m args below meth c H locs cells slots Z ls F hz h1 h2 hS hP hl
theorem b_bald {a : Nat} {l0 : List Int32} {i x : Int32} (hd : decode M.2.1 pc = .ok (.baload, 1)) (ha : μ a = some (cB l0)) (hx : ix l0 i = some x) (kk : bB g l M d Q (pc + 1) L (.int x :: st) μ k n) : bB g l M d Q pc L (.int i :: .ref a :: st) μ k n := by
  intro p e R s m args below meth c H locs cells slots Z ls F hz h1 h2 hS hP hl
  obtain ⟨q1, q2⟩ := ix_in hx
  refine va_bald (D := g.1) (ws := [(a, trc g.2.1 (cB l0))]) F.1 F.2.1 F.2.2.2.2.2.2.2.1.1 (hP.one ha) 0 3 rfl (tysL_at (by decide)) q1 hd ?_
  rw [getD_of q2]
  exact kk p e R s m args below meth c H locs cells slots Z ls F hz h1 h2 hS hP hl
theorem b_lald {a : Nat} {l0 : List Int64} {i : Int32} {x : Int64} (hd : decode M.2.1 pc = .ok (.laload, 1)) (ha : μ a = some (cJ l0)) (hx : ix l0 i = some x) (kk : bB g l M d Q (pc + 1) L (.long x :: st) μ k n) : bB g l M d Q pc L (.int i :: .ref a :: st) μ k n := by
  intro p e R s m args below meth c H locs cells slots Z ls F hz h1 h2 hS hP hl
  obtain ⟨q1, q2⟩ := ix_in hx
  refine va_lald (D := g.1) (ws := [(a, trc g.2.1 (cJ l0))]) F.1 F.2.1 F.2.2.2.2.2.2.2.1.1 (hP.one ha) 0 1 rfl (tysL_at (by decide)) q1 hd ?_
  rw [getD_of q2]
  exact kk p e R s m args below meth c H locs cells slots Z ls F hz h1 h2 hS hP hl
theorem tyA_obj {j : Nat} (h4 : 4 ≤ j) (h9 : j < 9) : ∃ C, tyA j = .object C ∧ C ∈ aoL := by
  rcases (show j = 4 ∨ j = 5 ∨ j = 6 ∨ j = 7 ∨ j = 8 by omega) with rfl | rfl | rfl | rfl | rfl
  · exact ⟨_, rfl, by simp [aoL]⟩
  · exact ⟨_, rfl, by simp [aoL]⟩
  · exact ⟨_, rfl, by simp [aoL]⟩
  · exact ⟨_, rfl, by simp [aoL]⟩
  · exact ⟨_, rfl, by simp [aoL]⟩
theorem b_aald {a j : Nat} {l0 : List (Option Nat)} {i : Int32} {x : Option Nat} (hd : decode M.2.1 pc = .ok (.aaload, 1)) (ha : μ a = some (cR j l0)) (hj : 4 ≤ j ∧ j < 9) (hx : ix l0 i = some x) (kk : bB g l M d Q (pc + 1) L (va_rf x :: st) μ k n) : bB g l M d Q pc L (.int i :: .ref a :: st) μ k n := by
  intro p e R s m args below meth c H locs cells slots Z ls F hz h1 h2 hS hP hl
  obtain ⟨q1, q2⟩ := ix_in hx
  obtain ⟨C, hC, -⟩ := tyA_obj hj.1 hj.2
  refine va_aldq (D := g.1) (C := C) (ws := [(a, trc g.2.1 (cR j l0))]) F.1 F.2.1 F.2.2.2.2.2.2.2.1.1 (hP.one ha) 0 j rfl (by rw [tysL_at hj.2, hC]) q1 hd ?_
  rw [getD_of q2]
  exact kk p e R s m args below meth c H locs cells slots Z ls F hz h1 h2 hS hP hl
theorem b_alenI {a : Nat} {l0 : List Int32} (hd : decode M.2.1 pc = .ok (.arraylength, 1)) (ha : μ a = some (cI l0)) (kk : bB g l M d Q (pc + 1) L (.int (nI l0.length) :: st) μ k n) : bB g l M d Q pc L (.ref a :: st) μ k n := by
  intro p e R s m args below meth c H locs cells slots Z ls F hz h1 h2 hS hP hl
  exact va_alen (D := g.1) (ws := [(a, trc g.2.1 (cI l0))]) F.1 F.2.1 F.2.2.2.2.2.2.2.1.1 (hP.one ha) 0 0 rfl (tysL_at (by decide)) rfl hd (kk p e R s m args below meth c H locs cells slots Z ls F hz h1 h2 hS hP hl)
theorem b_alenR {a j : Nat} {l0 : List (Option Nat)} (hd : decode M.2.1 pc = .ok (.arraylength, 1)) (ha : μ a = some (cR j l0)) (hj : j < 9) (kk : bB g l M d Q (pc + 1) L (.int (nI l0.length) :: st) μ k n) : bB g l M d Q pc L (.ref a :: st) μ k n := by
  intro p e R s m args below meth c H locs cells slots Z ls F hz h1 h2 hS hP hl
  exact va_alen (D := g.1) (ws := [(a, trc g.2.1 (cR j l0))]) F.1 F.2.1 F.2.2.2.2.2.2.2.1.1 (hP.one ha) 0 j rfl (tysL_at hj) rfl hd (kk p e R s m args below meth c H locs cells slots Z ls F hz h1 h2 hS hP hl)
/-- one cell at its own world, for the kit's stores -/
theorem mD.one {a : Nat} {e : va_E} {A : Nat → Prop} (h : A a) : va_D A [(a, e)] := by
  refine ⟨fun i j p q hi hj _ => ?_, fun j q hj => ?_⟩
  · have h1 : i < 1 := (List.getElem?_eq_some_iff.mp hi).1
    have h2 : j < 1 := (List.getElem?_eq_some_iff.mp hj).1
    omega
  · have h2 : j < 1 := (List.getElem?_eq_some_iff.mp hj).1
    rw [show j = 0 by omega] at hj
    cases hj
    exact h
theorem ofI {cA : ClassId} {l0 : List Int32} {j : Nat} {x : Int32} (hj : j < l0.length) : (arrV cA l0.length (fun q => .int (l0.getD q 0))).setSlot j (.int x) = vp_cell cA ((l0.set j x).length, .inl (fun q => (l0.set j x).getD q 0)) := by
  rw [arrV_store, vp_cell_i, List.length_set]
  congr 1
  funext q
  rw [getD_set hj]
  by_cases h : q = j <;> simp [updV, h]
theorem b_iast {a : Nat} {l0 l1 : List Int32} {i x : Int32} (hd : decode M.2.1 pc = .ok (.iastore, 1)) (ha : μ a = some (cI l0)) (hx : ixs l0 i x = some l1) (kk : bB g l M d Q (pc + 1) L st (mset μ a (cI l1)) k n) : bB g l M d Q pc L (.int x :: .int i :: .ref a :: st) μ k n := by
  intro p e R s m args below meth c H locs cells slots Z ls F hz h1 h2 hS hP hl
  obtain ⟨q1, q2⟩ := ixs_in hx
  obtain ⟨hc, hA⟩ := hP a _ ha
  have hlt : i.toNatClampNeg < l0.length := Nat.not_le.mp fun q => q1 (Or.inr q)
  refine W.iast F.1 F.2.1 hc ((F.2.2.2.2.2.2.2.1.1.2 0 _ (tysL_at (by decide))).1 _ _) (fun q => by cases q) (by show ¬ (i < 0 ∨ (arrV _ _ _).slots.size ≤ _); rw [arrV_size]; exact q1) rfl rfl hd fun H1 e1 z oq => ?_
  refine kk p e R s m args below meth c H1 _ cells slots Z ls F hz h1 h2 (mS_put hS z oq hA) (hP.set hA ?_ oq) hl
  show H1[a]? = some (vp_cell _ _)
  rw [e1, q2]
  exact congrArg some (ofI hlt)
theorem b_zast {a : Nat} {l0 l1 : List Int32} {i x : Int32} (hd : decode M.2.1 pc = .ok (.bastore, 1)) (ha : μ a = some (cZ l0)) (hb : vp_nar .boolean x = x) (hx : ixs l0 i x = some l1) (kk : bB g l M d Q (pc + 1) L st (mset μ a (cZ l1)) k n) : bB g l M d Q pc L (.int x :: .int i :: .ref a :: st) μ k n := by
  intro p e R s m args below meth c H locs cells slots Z ls F hz h1 h2 hS hP hl
  obtain ⟨q1, q2⟩ := ixs_in hx
  obtain ⟨hc, hA⟩ := hP a _ ha
  have hlt : i.toNatClampNeg < l0.length := Nat.not_le.mp fun q => q1 (Or.inr q)
  refine W.zast F.1 F.2.1 hc ((F.2.2.2.2.2.2.2.1.1.2 2 _ (tysL_at (by decide))).1 _ _) (fun q => by cases q) (by show ¬ (i < 0 ∨ (arrV _ _ _).slots.size ≤ _); rw [arrV_size]; exact q1) rfl rfl hd fun H1 e1 z oq => ?_
  refine kk p e R s m args below meth c H1 _ cells slots Z ls F hz h1 h2 (mS_put hS z oq hA) (hP.set hA ?_ oq) hl
  show H1[a]? = some (vp_cell _ _)
  rw [e1, q2]
  have e2 : narrow .boolean (.int x) = .int x := congrArg Value.int hb
  rw [e2]
  exact congrArg some (ofI hlt)
theorem b_bast {a : Nat} {l0 l1 : List Int32} {i x : Int32} (hd : decode M.2.1 pc = .ok (.bastore, 1)) (ha : μ a = some (cB l0)) (hb : vp_nar .byte x = x) (hx : ixs l0 i x = some l1) (kk : bB g l M d Q (pc + 1) L st (mset μ a (cB l1)) k n) : bB g l M d Q pc L (.int x :: .int i :: .ref a :: st) μ k n := by
  intro p e R s m args below meth c H locs cells slots Z ls F hz h1 h2 hS hP hl
  obtain ⟨q1, q2⟩ := ixs_in hx
  obtain ⟨hc, hA⟩ := hP a _ ha
  have hlt : i.toNatClampNeg < l0.length := Nat.not_le.mp fun q => q1 (Or.inr q)
  refine W.bast F.1 F.2.1 hc ((F.2.2.2.2.2.2.2.1.1.2 3 _ (tysL_at (by decide))).1 _ _) (fun q => by cases q) (by show ¬ (i < 0 ∨ (arrV _ _ _).slots.size ≤ _); rw [arrV_size]; exact q1) rfl rfl hd fun H1 e1 z oq => ?_
  refine kk p e R s m args below meth c H1 _ cells slots Z ls F hz h1 h2 (mS_put hS z oq hA) (hP.set hA ?_ oq) hl
  show H1[a]? = some (vp_cell _ _)
  rw [e1, q2]
  have e2 : narrow .byte (.int x) = .int x := congrArg Value.int hb
  rw [e2]
  exact congrArg some (ofI hlt)
theorem ofJ {cA : ClassId} {l0 : List Int64} {j : Nat} {x : Int64} (hj : j < l0.length) : (arrV cA l0.length (fun q => .long (l0.getD q 0))).setSlot j (.long x) = vp_cell cA ((l0.set j x).length, .inr (.inl (fun q => (l0.set j x).getD q 0))) := by
  rw [arrV_store, vp_cell_l, List.length_set]
  congr 1
  funext q
  rw [getD_set hj]
  by_cases h : q = j <;> simp [updV, h]
theorem b_last {a : Nat} {l0 l1 : List Int64} {i : Int32} {x : Int64} (hd : decode M.2.1 pc = .ok (.lastore, 1)) (ha : μ a = some (cJ l0)) (hx : ixs l0 i x = some l1) (kk : bB g l M d Q (pc + 1) L st (mset μ a (cJ l1)) k n) : bB g l M d Q pc L (.long x :: .int i :: .ref a :: st) μ k n := by
  intro p e R s m args below meth c H locs cells slots Z ls F hz h1 h2 hS hP hl
  obtain ⟨q1, q2⟩ := ixs_in hx
  obtain ⟨hc, hA⟩ := hP a _ ha
  have hlt : i.toNatClampNeg < l0.length := Nat.not_le.mp fun q => q1 (Or.inr q)
  refine W.last F.1 F.2.1 hc ((F.2.2.2.2.2.2.2.1.1.2 1 _ (tysL_at (by decide))).1 _ _) (fun q => by cases q) (by show ¬ (i < 0 ∨ (arrV _ _ _).slots.size ≤ _); rw [arrV_size]; exact q1) rfl rfl hd fun H1 e1 z oq => ?_
  refine kk p e R s m args below meth c H1 _ cells slots Z ls F hz h1 h2 (mS_put hS z oq hA) (hP.set hA ?_ oq) hl
  show H1[a]? = some (vp_cell _ _)
  rw [e1, q2]
  exact congrArg some (ofJ hlt)
theorem ofR {cA : ClassId} {l0 : List (Option Nat)} {j : Nat} {x : Option Nat} (hj : j < l0.length) : (arrV cA l0.length (fun q => va_rf (l0.getD q none))).setSlot j (va_rf x) = vp_cell cA ((l0.set j x).length, .inr (.inr (.inr (.inr (fun q => (l0.set j x).getD q none))))) := by
  rw [arrV_store, vp_cell_q, List.length_set]
  congr 1
  funext q
  rw [getD_set hj]
  by_cases h : q = j <;> simp [updV, h]
theorem b_aastN {a j : Nat} {l0 l1 : List (Option Nat)} {i : Int32} (hd : decode M.2.1 pc = .ok (.aastore, 1)) (ha : μ a = some (cR j l0)) (hj : 4 ≤ j ∧ j < 9) (hx : ixs l0 i none = some l1) (kk : bB g l M d Q (pc + 1) L st (mset μ a (cR j l1)) k n) : bB g l M d Q pc L (.null :: .int i :: .ref a :: st) μ k n := by
  intro p e R s m args below meth c H locs cells slots Z ls F hz h1 h2 hS hP hl
  obtain ⟨q1, q2⟩ := ixs_in hx
  obtain ⟨hc, hA⟩ := hP a _ ha
  obtain ⟨C, hC, -⟩ := tyA_obj hj.1 hj.2
  have hlt : i.toNatClampNeg < l0.length := Nat.not_le.mp fun q => q1 (Or.inr q)
  refine va_WaastN (C := C) F.1 F.2.1 hc ((F.2.2.2.2.2.2.2.1.1.2 j (g.2.1 j, .object C) (by rw [tysL_at hj.2, hC])).1 _ _) (fun q => by cases q) (by show ¬ (i < 0 ∨ (arrV _ _ _).slots.size ≤ _); rw [arrV_size]; exact q1) rfl rfl hd fun H1 e1 z oq => ?_
  refine kk p e R s m args below meth c H1 _ cells slots Z ls F hz h1 h2 (mS_put hS z oq hA) (hP.set hA ?_ oq) hl
  show H1[a]? = some (vp_cell _ _)
  rw [e1, q2]
  exact congrArg some (ofR (x := none) hlt)
/-- which class may lie in which row of references -/
def okR (j ci : Nat) : Prop := (j = 4 ∧ ci = 9) ∨ (j = 5 ∧ (ci = 3 ∨ ci = 11)) ∨ (j = 6 ∧ ci = 4) ∨ (j = 7 ∧ ci = 7) ∨ (j = 8 ∧ ci = 10)
theorem okR.any {j ci v : Nat} (h : okR j ci) {fs : List Value} {H : Heap} {s : State} (hP : mP g μ H) (hK : mK g s) (hv : μ v = some (cO ci fs)) : ∃ C, tyA j = .object C ∧ va_Any C s H v := by
  have h1 : ∀ (E : String) (r : vw_C), clsL[ci]? = some r → r.1 = E → va_Any E s H v := by
    intro E r hr hE
    refine va_rAny hK.1 (hP.one hv) (q0 := 0) rfl hr (fun comp c0 f1 f2 => ?_)
    rw [hE] at f2
    cases f1.symm.trans f2
    have h3 := (hK.1.1 ci r hr).2
    rw [hE] at h3
    cases h3.1.symm.trans f2
    exact va_assign h3
  have h2 : ∀ (E : String) (r : vw_C), clsL[ci]? = some r → (r.1, E) ∈ nwC → va_Any E s H v := by
    intro E r hr hE
    refine va_rAny hK.1 (hP.one hv) (q0 := 0) rfl hr (fun comp c0 f1 f2 => ?_)
    obtain ⟨c9, t1, g1, g2, g3⟩ := Cond.castable_spec (va_Nw.use (A := #[]) rfl (hK.2.2.1 _ hE))
    cases g1.symm.trans f2
    cases g2.symm.trans f1
    exact g3
  rcases h with ⟨rfl, rfl⟩ | ⟨rfl, rfl | rfl⟩ | ⟨rfl, rfl⟩ | ⟨rfl, rfl⟩ | ⟨rfl, rfl⟩
  · exact ⟨_, rfl, h1 _ _ rfl rfl⟩
  · exact ⟨_, rfl, h2 _ _ rfl (by decide +kernel)⟩
  · exact ⟨_, rfl, h2 _ _ rfl (by decide +kernel)⟩
  · exact ⟨_, rfl, h1 _ _ rfl rfl⟩
  · exact ⟨_, rfl, h1 _ _ rfl rfl⟩
  · exact ⟨_, rfl, h1 _ _ rfl rfl⟩
theorem b_aast {a j ci v : Nat} {fs : List Value} {l0 l1 : List (Option Nat)} {i : Int32} (hd : decode M.2.1 pc = .ok (.aastore, 1)) (ha : μ a = some (cR j l0)) (hj : 4 ≤ j ∧ j < 9) (hv : μ v = some (cO ci fs)) (ho : okR j ci) (hx : ixs l0 i (some v) = some l1) (kk : bB g l M d Q (pc + 1) L st (mset μ a (cR j l1)) k n) : bB g l M d Q pc L (.ref v :: .int i :: .ref a :: st) μ k n := by
  intro p e R s m args below meth c H locs cells slots Z ls F hz h1 h2 hS hP hl
  obtain ⟨q1, q2⟩ := ixs_in hx
  obtain ⟨hc, hA⟩ := hP a _ ha
  obtain ⟨C, hC, cellV, g1, g3, ⟨kC, hkC⟩, hasg⟩ := ho.any hP F.2.2.2.2.2.2.2.1 hv
  have hlt : i.toNatClampNeg < l0.length := Nat.not_le.mp fun q => q1 (Or.inr q)
  have h0 : ¬ i < 0 := fun q => q1 (Or.inl q)
  obtain ⟨kA, comp, k1, k2, k3, -⟩ := (F.2.2.2.2.2.2.2.1.1.2 j (g.2.1 j, .object C) (by rw [tysL_at hj.2, hC])).2
  obtain ⟨kE, hkE, -⟩ := Vm.findClass_spec k3
  refine W.aast F.1 F.2.1 hc (fun q h => by cases h) (fun h => by cases h) k1 k2 rfl hkE ⟨h0, by show _ < (arrV _ _ _).slots.size; rw [arrV_size]; exact hlt⟩ g1 (fun q h => by rw [h] at g3; cases g3) hkC (hasg _ k3) rfl rfl hd fun H1 e1 z oq => ?_
  refine kk p e R s m args below meth c H1 _ cells slots Z ls F hz h1 h2 (mS_put hS z oq hA) (hP.set hA ?_ oq) hl
  show H1[a]? = some (vp_cell _ _)
  rw [e1, q2]
  exact congrArg some (ofR (x := some v) hlt)
/-! making cells -/
/-- the class ci, as entry idx of own's pool: it can be made, N slots, with these first fields -/
def CL (own : String) (idx ci N : Nat) (fs : List Value) : Prop := ∃ (C : String) (T : u_T) (ty : Nat → FieldType), CI ci C T N ty ∧ Cond.classLink own idx C ∈ lw_all ∧ Cond.instantiable C N ∈ lw_all ∧ Cond.initialized C ∈ lw_all ∧ ∀ j, j < N → defaultValue (ty j) = vp_V fs j
theorem b_new {idx ci N : Nat} {fs : List Value} (hd : decode M.2.1 pc = .ok (.new idx, 3)) (hc : CL M.1.cls idx ci N fs) (hk : 1 ≤ k) (hn : N ≤ n) (kk : ∀ a, μ a = none → bB g l M d Q (pc + 3) L (.ref a :: st) (mset μ a (cO ci fs)) (k - 1) (n - N)) : bB g l M d Q pc L st μ k n := by
  intro p e R s m args below meth c H locs cells slots Z ls F hz h1 h2 hS hP hl
  obtain ⟨C, T, ty, ⟨c1, c2, c3, c4⟩, w1, w2, w3, hfs⟩ := hc
  have hts := F.2.2.2.2.2.2.1
  have hK := F.2.2.2.2.2.2.2.1.1
  have hKn := hK.1 ci _ c1
  have hE := F.2.2.2.2.2.2.2.2.1
  refine W.newcK F.1 F.2.1 F.2.2.2.2.2.1 (hts _ w1) (hts _ w2) (hts _ w3) rfl hd (by omega) (by omega) hKn.2.1 rfl fun H1 kC hkC e1 z1 o1 => ?_
  have hA : g.2.2.1 ≤ H.size := Nat.le_trans hE.2.2.2.2 hS.1
  exact kk H.size hP.fresh p e R s m args below meth c H1 locs (cells + 1) (slots + N) Z ls F hz (by omega) (by omega) ⟨Nat.le_trans hS.1 (by omega), fun x a1 a2 => (o1 x (Nat.lt_of_lt_of_le a1 hS.1)).trans (hS.2.1 x a1 a2), hS.2.2⟩ (hP.push hA ⟨_, c1, (u_born ty hts c2 hKn hkC e1 c3).to hfs⟩ o1) hl
theorem nA_int {N : Nat} : N * componentBytes .int ≤ 536870912 ↔ N * 4 ≤ 536870912 := Iff.rfl
theorem nI_clampN {x : Int32} {N : Nat} (h : x = nI N) (hN : N ≤ 1000000) : ¬ x < 0 ∧ x.toNatClampNeg = N := by
  subst h
  exact ⟨nI_pos (by omega), nI_clamp (by omega)⟩
theorem repl_getD {α : Type} {N j : Nat} {z : α} : (List.replicate N z).getD j z = z := by
  simp only [List.getD, List.getElem?_replicate]
  split <;> rfl
theorem arrK {g : Cx} {s : State} (hK : mK g s) {j : Nat} (hj : j < 9) {cA : ClassId} {t : FieldType} (ht : tyA j = t) (hf : s.vm.findClass ("[" ++ t.toString) = some cA) : cA = g.2.1 j := by
  have h := (hK.1.2 j _ (tysL_at hj)).2
  rw [ht] at h
  cases t with
  | object C =>
    obtain ⟨kA, comp, k1, k2, k3, k4⟩ := h
    exact Option.some.inj (hf.symm.trans k4)
  | _ => exact Option.some.inj (hf.symm.trans h)
theorem b_newI {x : Int32} {N : Nat} (hd : decode M.2.1 pc = .ok (.newarray .int, 2)) (hx : x = nI N) (hN : N ≤ 1000000) (hk : 1 ≤ k) (hn : N ≤ n) (kk : ∀ a, μ a = none → bB g l M d Q (pc + 2) L (.ref a :: st) (mset μ a (cI (List.replicate N 0))) (k - 1) (n - N)) : bB g l M d Q pc L (.int x :: st) μ k n := by
  intro p e R s m args below meth c H locs cells slots Z ls F hz h1 h2 hS hP hl
  have hts := F.2.2.2.2.2.2.1
  have hE := F.2.2.2.2.2.2.2.2.1
  obtain ⟨x0, x1⟩ := nI_clampN hx hN
  refine va_newaK (atype := .int) F.1 F.2.1 (hts _ q85) rfl hd rfl x0 x1 (by show N * 4 ≤ _; omega) (by omega) (by omega) rfl fun H1 cA e1 z1 o1 hAr hNm => ?_
  have hA : g.2.2.1 ≤ H.size := Nat.le_trans hE.2.2.2.2 hS.1
  have hcA : cA = g.2.1 0 := arrK F.2.2.2.2.2.2.2.1 (by decide) rfl hNm
  refine kk H.size hP.fresh p e R s m args below meth c H1 locs (cells + 1) (slots + N) Z ls F hz (by omega) (by omega) ⟨Nat.le_trans hS.1 (by omega), fun x a1 a2 => (o1 x (Nat.lt_of_lt_of_le a1 hS.1)).trans (hS.2.1 x a1 a2), hS.2.2⟩ (hP.push hA ?_ o1) hl
  show H1[H.size]? = some (vp_cell _ _)
  rw [e1, hcA, vp_cell_i, List.length_replicate]
  congr 2
  funext q
  rw [repl_getD]
  rfl
theorem b_newJ {x : Int32} {N : Nat} (hd : decode M.2.1 pc = .ok (.newarray .long, 2)) (hx : x = nI N) (hN : N ≤ 1000000) (hk : 1 ≤ k) (hn : N ≤ n) (kk : ∀ a, μ a = none → bB g l M d Q (pc + 2) L (.ref a :: st) (mset μ a (cJ (List.replicate N 0))) (k - 1) (n - N)) : bB g l M d Q pc L (.int x :: st) μ k n := by
  intro p e R s m args below meth c H locs cells slots Z ls F hz h1 h2 hS hP hl
  have hts := F.2.2.2.2.2.2.1
  have hE := F.2.2.2.2.2.2.2.2.1
  obtain ⟨x0, x1⟩ := nI_clampN hx hN
  refine va_newaK (atype := .long) F.1 F.2.1 (hts _ q86) rfl hd rfl x0 x1 (by show N * 8 ≤ _; omega) (by omega) (by omega) rfl fun H1 cA e1 z1 o1 hAr hNm => ?_
  have hA : g.2.2.1 ≤ H.size := Nat.le_trans hE.2.2.2.2 hS.1
  have hcA : cA = g.2.1 1 := arrK F.2.2.2.2.2.2.2.1 (by decide) rfl hNm
  refine kk H.size hP.fresh p e R s m args below meth c H1 locs (cells + 1) (slots + N) Z ls F hz (by omega) (by omega) ⟨Nat.le_trans hS.1 (by omega), fun x a1 a2 => (o1 x (Nat.lt_of_lt_of_le a1 hS.1)).trans (hS.2.1 x a1 a2), hS.2.2⟩ (hP.push hA ?_ o1) hl
  show H1[H.size]? = some (vp_cell _ _)
  rw [e1, hcA, vp_cell_l, List.length_replicate]
  congr 2
  funext q
  rw [repl_getD]
  rfl
theorem b_newZ {x : Int32} {N : Nat} (hd : decode M.2.1 pc = .ok (.newarray .boolean, 2)) (hx : x = nI N) (hN : N ≤ 1000000) (hk : 1 ≤ k) (hn : N ≤ n) (kk : ∀ a, μ a = none → bB g l M d Q (pc + 2) L (.ref a :: st) (mset μ a (cZ (List.replicate N 0))) (k - 1) (n - N)) : bB g l M d Q pc L (.int x :: st) μ k n := by
  intro p e R s m args below meth c H locs cells slots Z ls F hz h1 h2 hS hP hl
  have hts := F.2.2.2.2.2.2.1
  have hE := F.2.2.2.2.2.2.2.2.1
  obtain ⟨x0, x1⟩ := nI_clampN hx hN
  refine va_newaK (atype := .boolean) F.1 F.2.1 (hts _ q825) rfl hd rfl x0 x1 (by show N * 1 ≤ _; omega) (by omega) (by omega) rfl fun H1 cA e1 z1 o1 hAr hNm => ?_
  have hA : g.2.2.1 ≤ H.size := Nat.le_trans hE.2.2.2.2 hS.1
  have hcA : cA = g.2.1 2 := arrK F.2.2.2.2.2.2.2.1 (by decide) rfl hNm
  refine kk H.size hP.fresh p e R s m args below meth c H1 locs (cells + 1) (slots + N) Z ls F hz (by omega) (by omega) ⟨Nat.le_trans hS.1 (by omega), fun x a1 a2 => (o1 x (Nat.lt_of_lt_of_le a1 hS.1)).trans (hS.2.1 x a1 a2), hS.2.2⟩ (hP.push hA ?_ o1) hl
  show H1[H.size]? = some (vp_cell _ _)
  rw [e1, hcA, vp_cell_i, List.length_replicate]
  congr 2
  funext q
  rw [repl_getD]
  rfl
theorem b_newB {x : Int32} {N : Nat} (hd : decode M.2.1 pc = .ok (.newarray .byte, 2)) (hx : x = nI N) (hN : N ≤ 1000000) (hk : 1 ≤ k) (hn : N ≤ n) (kk : ∀ a, μ a = none → bB g l M d Q (pc + 2) L (.ref a :: st) (mset μ a (cB (List.replicate N 0))) (k - 1) (n - N)) : bB g l M d Q pc L (.int x :: st) μ k n := by
  intro p e R s m args below meth c H locs cells slots Z ls F hz h1 h2 hS hP hl
  have hts := F.2.2.2.2.2.2.1
  have hE := F.2.2.2.2.2.2.2.2.1
  obtain ⟨x0, x1⟩ := nI_clampN hx hN
  refine va_newaK (atype := .byte) F.1 F.2.1 (hts _ q591) rfl hd rfl x0 x1 (by show N * 1 ≤ _; omega) (by omega) (by omega) rfl fun H1 cA e1 z1 o1 hAr hNm => ?_
  have hA : g.2.2.1 ≤ H.size := Nat.le_trans hE.2.2.2.2 hS.1
  have hcA : cA = g.2.1 3 := arrK F.2.2.2.2.2.2.2.1 (by decide) rfl hNm
  refine kk H.size hP.fresh p e R s m args below meth c H1 locs (cells + 1) (slots + N) Z ls F hz (by omega) (by omega) ⟨Nat.le_trans hS.1 (by omega), fun x a1 a2 => (o1 x (Nat.lt_of_lt_of_le a1 hS.1)).trans (hS.2.1 x a1 a2), hS.2.2⟩ (hP.push hA ?_ o1) hl
  show H1[H.size]? = some (vp_cell _ _)
  rw [e1, hcA, vp_cell_i, List.length_replicate]
  congr 2
  funext q
  rw [repl_getD]
  rfl
/-- rows of references of kind j, as entry idx of own's pool -/
def AL (own : String) (idx j : Nat) : Prop := ∃ C : String, tyA j = .object C ∧ C ∈ aoL ∧ Cond.classLink own idx C ∈ lw_all
theorem b_newR {idx j : Nat} {x : Int32} {N : Nat} (hd : decode M.2.1 pc = .ok (.anewarray idx, 3)) (hj : j < 9) (hc : AL M.1.cls idx j) (hx : x = nI N) (hN : N ≤ 1000000) (hk : 1 ≤ k) (hn : N ≤ n) (kk : ∀ a, μ a = none → bB g l M d Q (pc + 3) L (.ref a :: st) (mset μ a (cR j (List.replicate N none))) (k - 1) (n - N)) : bB g l M d Q pc L (.int x :: st) μ k n := by
  intro p e R s m args below meth c H locs cells slots Z ls F hz h1 h2 hS hP hl
  have hts := F.2.2.2.2.2.2.1
  have hE := F.2.2.2.2.2.2.2.2.1
  obtain ⟨C, hC, hCa, w1⟩ := hc
  obtain ⟨x0, x1⟩ := nI_clampN hx hN
  refine W.anew F.1 F.2.1 F.2.2.2.2.2.1 (hts _ w1) (va_AO.use (F.2.2.2.2.2.2.2.1.2.2.2.2.1 _ hCa)) rfl hd rfl x0 (by rw [x1]; show N * 4 ≤ _; omega) (by omega) (by rw [x1]; omega) fun cA kA comp f1 f2 f3 f4 => ?_
  rw [x1]
  have hcA : cA = g.2.1 j := arrK F.2.2.2.2.2.2.2.1 hj hC f1
  generalize hH1 : H.push ({ cls := cA, slots := Array.replicate N .null, vm := .none } : Cell) = H1
  have z1 : H1.size = H.size + 1 := by rw [← hH1, Array.size_push]
  have e1 : H1[H.size]? = some (arrV cA N (fun _ => .null)) := by rw [← hH1, Array.getElem?_push_size, ← arrV_new]
  have o1 : ∀ q : Nat, q < H.size → H1[q]? = H[q]? := fun q hq => by rw [← hH1, Array.getElem?_push, if_neg (Nat.ne_of_lt hq)]
  have hA : g.2.2.1 ≤ H.size := Nat.le_trans hE.2.2.2.2 hS.1
  refine kk H.size hP.fresh p e R s m args below meth c H1 locs (cells + 1) (slots + N) Z ls F hz (by omega) (by omega) ⟨Nat.le_trans hS.1 (by omega), fun x a1 a2 => (o1 x (Nat.lt_of_lt_of_le a1 hS.1)).trans (hS.2.1 x a1 a2), hS.2.2⟩ (hP.push hA ?_ o1) hl
  show H1[H.size]? = some (vp_cell _ _)
  rw [e1, hcA, vp_cell_q, List.length_replicate]
  congr 2
  funext q
  rw [repl_getD]
  rfl
/-! returns -/
theorem b_end {t : State} {R : Room} {s : State} {below : List Frame} {Z : State → Prop} {H : Heap} {locs : List Loc} {cells slots : Nat} {o0 : Outcome} {args : Array Value} (hz : Fz g Q R s below Z) (h1 : cells + k ≤ R.cells) (h2 : slots + n ≤ R.slots) (hS : va_S (gA g) s.heap H locs) (hP : mP g μ H) (hQ : Q o0 μ k n)
    (hm : MQ below (fun _ s o t => o = o0 ∧ t.heap = H) args s cells slots (gA g) t) : Z t := by
  obtain ⟨o, a1, a2, ⟨rfl, a3⟩, L', ⟨a4, a5, a6⟩, a7⟩ := hm
  exact hz t o μ k n L' a1 a2 (by rw [a3]; exact hP) hQ (hS.F a3) (by omega) (by omega) ⟨a5, a6.mono (by omega) (by omega)⟩ a7
theorem b_iret {v : Int32} (hd : decode M.2.1 pc = .ok (.ireturn, 1)) (hr : M.2.2.2.1 = some .int) (hQ : Q (.returned (some (.int v))) μ k n) : bB g l M d Q pc L [.int v] μ k n :=
  fun p e R s m args below meth c H locs cells slots Z ls F hz h1 h2 hS hP hl =>
    W.monoQ (fun t hm => b_end hz h1 h2 hS hP hQ hm) (W.iret (free := gA g) (Qc := fun _ s o t => o = .returned (some (.int v)) ∧ t.heap = H) F.1 F.2.1 (F.2.2.2.1.trans hr) (fun t ht hW => ⟨rfl, ht⟩) hS.2.2 hd F.2.2.2.2.1)
theorem b_zret {v : Int32} (hd : decode M.2.1 pc = .ok (.ireturn, 1)) (hr : M.2.2.2.1 = some .boolean) (hv : narrow .boolean (.int v) = .int v) (hQ : Q (.returned (some (.int v))) μ k n) : bB g l M d Q pc L [.int v] μ k n :=
  fun p e R s m args below meth c H locs cells slots Z ls F hz h1 h2 hS hP hl =>
    W.monoQ (fun t hm => b_end hz h1 h2 hS hP hQ hm) (W.zret (free := gA g) (Qc := fun _ s o t => o = .returned (some (.int v)) ∧ t.heap = H) F.1 F.2.1 (F.2.2.2.1.trans hr) hv (fun t ht hW => ⟨rfl, ht⟩) hS.2.2 hd F.2.2.2.2.1)
theorem b_lret {v : Int64} (hd : decode M.2.1 pc = .ok (.lreturn, 1)) (hr : M.2.2.2.1 = some .long) (hQ : Q (.returned (some (.long v))) μ k n) : bB g l M d Q pc L [.long v] μ k n :=
  fun p e R s m args below meth c H locs cells slots Z ls F hz h1 h2 hS hP hl =>
    W.monoQ (fun t hm => b_end hz h1 h2 hS hP hQ hm) (W.lret (free := gA g) (Qc := fun _ s o t => o = .returned (some (.long v)) ∧ t.heap = H) F.1 F.2.1 (F.2.2.2.1.trans hr) (fun t ht hW => ⟨rfl, ht⟩) hS.2.2 hd F.2.2.2.2.1)
theorem b_aret {C : String} {v : Value} (hd : decode M.2.1 pc = .ok (.areturn, 1)) (hr : M.2.2.2.1 = some (.object C)) (hv : v = .null ∨ ∃ a, v = .ref a) (hQ : Q (.returned (some v)) μ k n) : bB g l M d Q pc L [v] μ k n :=
  fun p e R s m args below meth c H locs cells slots Z ls F hz h1 h2 hS hP hl =>
    W.monoQ (fun t hm => b_end hz h1 h2 hS hP hQ hm) (W.aret (free := gA g) (Qc := fun _ s o t => o = .returned (some v) ∧ t.heap = H) F.1 F.2.1 (F.2.2.2.1.trans hr) (Or.inl ⟨C, rfl⟩) hv (fun t ht hW => ⟨rfl, ht⟩) hS.2.2 hd F.2.2.2.2.1)
theorem b_vret (hd : decode M.2.1 pc = .ok (.return_, 1)) (hr : M.2.2.2.1 = none) (hQ : Q (.returned none) μ k n) : bB g l M d Q pc L [] μ k n :=
  fun p e R s m args below meth c H locs cells slots Z ls F hz h1 h2 hS hP hl =>
    W.monoQ (fun t hm => b_end hz h1 h2 hS hP hQ hm) (W.vret (free := gA g) (Qc := fun _ s o t => o = .returned none ∧ t.heap = H) F.1 F.2.1 (F.2.2.2.1.trans hr) (fun t ht hW => ⟨rfl, ht⟩) hS.2.2 hd F.2.2.2.2.1)
end HE
