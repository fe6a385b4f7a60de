/-! RULES of bB: entry and calls -/
set_option maxRecDepth 100000
section CA
variable {g : Cx} {l : Launch} {M : MI} {d : Nat} {Q : Outcome → Mem → Nat → Nat → Prop} {pc : Nat} {L : List (Nat × Value)} {st : List Value} {μ : Mem} {k n : Nat}
/-- a method without handlers, from its entry -/
theorem Ms.of {args : List Value} (hM : M.2.2.2.2 = []) (hy : plainName M.1.cls = true) (hlen : (lg_sl args).length ≤ M.2.2.1) (hB : bB g l M d Q 0 (lv_args 0 args) [] μ k n) : Ms g l d k n M args μ Q := by
  have hws : wsM M = ws_ M.1 M.2.1 M.2.2.1 M.2.2.2.1 := by unfold wsM; rw [hM]
  unfold Ms
  rw [hws]
  refine MetFree.of_bodyS (code := M.2.1) (maxLocals := M.2.2.1) (ret := M.2.2.2.1) hy ?_ ?_
  · intro args s m h hn
    obtain ⟨meth, c, h1, h2, h3, h4, h5, h6, -, -⟩ := Cond.code_spec hn (atoms_spec (ws := ws_ M.1 M.2.1 M.2.2.1 M.2.2.2.1) h _ List.mem_cons_self)
    exact ⟨meth, c, h1, h2, h3, h4, h5, h6⟩
  · intro p e s m args9 below meth c s₁ B hml hP _
    obtain ⟨rfl, hP, hK, hE⟩ := hP
    have hh0 : s₁.heap = s.heap := by rw [B.state]; rfl
    have hts0 := atoms_spec (ws := ws_ M.1 M.2.1 M.2.2.1 M.2.2.2.1) B.pre
    have hts : ∀ w ∈ lw_all, w.before args.toArray s = true := fun w h => hts0 w (List.mem_cons_of_mem _ h)
    have hown : s.vm.findClass M.1.cls = some m.cls := findClass_of_methodNamed B.named
    have hex : c.exceptionTable.isEmpty = true := B.noHandlers (hts0 _ List.mem_cons_self)
    have hx2 : c.exceptionTable.toList.map (fun x => (x.startPc, x.endPc, x.handlerPc, x.catchType)) = M.2.2.2.2 := by
      rw [hM, List.map_eq_nil_iff]
      simpa using hex
    have F : Fx g M d p (headSpec (ws_ M.1 M.2.1 M.2.2.1 M.2.2.2.1) (rmM d k n)).room s m args.toArray meth c :=
      ⟨B.exec, B.bytes, hml, B.returns, B.notSynchronized, hown, hts, hK, hE, Nat.le_refl _, Nat.le_refl _, (name_of_methodNamed B.named B.method).1, hx2⟩
    have hw := hB p e (headSpec (ws_ M.1 M.2.1 M.2.2.1 M.2.2.2.1) (rmM d k n)).room s m args.toArray below meth c s.heap [] 0 0
      (fun t => ∃ o, t.status = .running ∧ Ended t below o ∧ ∃ (μ' : Mem) (k' n' : Nat), mP g μ' t.heap ∧ Q o μ' k' n' ∧ va_F (gA g) s t ∧ k' ≤ k ∧ n' ≤ n ∧ ∃ L, FrameT s t L (k - k') (n - n') ∧ ∀ q ∈ L, gA g q.base)
      _ F (fun t o μ' k' n' L' a1 a2 a3 a4 a5 a6 a7 a8 a9 => ⟨o, a1, a2, μ', k', n', a3, a4, a5, a6, a7, L', a8, a9⟩) (by show 0 + k ≤ k; omega) (by show 0 + n ≤ n; omega) va_S.rf hP (lv_entry args hlen)
    rw [← lg_entry_eq] at hw
    obtain ⟨t, a1, o, b1, b2, b3⟩ := hw s₁ hh0 (Stand.of_body B)
    exact ⟨t, o, a1, b1, b2, b3⟩
/-- a call seen from the caller: it comes back, at a state with a memory of the post -/
def RunC (g : Cx) (p : Program) (l : Launch) (e : Env) (R : Room) (s : State) (m : MethodId) (args : Array Value) (below : List Frame) (meth : Method) (c : Code) (H : Heap) (locs : List Loc) (cells slots k n : Nat) (f : JFrame) (rest : List Value) (Q : Outcome → Mem → Nat → Nat → Prop) : Prop :=
  ∀ T : State, T.heap = H → Stand p l e R s m args below meth c T locs cells slots → ∃ (v : Option Value) (T' : State) (L : List Loc) (μ' : Mem) (k' n' : Nat), k' ≤ k ∧ n' ≤ n ∧ Stand p l e R s m args below meth c T' (locs ++ L) (cells + (k - k')) (slots + (n - n')) ∧ (∀ q ∈ L, gA g q.base) ∧ mP g μ' T'.heap ∧ Q (.returned v) μ' k' n' ∧ H.size ≤ T'.heap.size ∧ (∀ q : Nat, q < H.size → ¬ gA g q → T'.heap[q]? = H[q]?) ∧
    Goes p e below T f T' { f with pc := f.pc + 3, stack := v.toList ++ rest }
/-- what a call site owes: from a contract of the callee M' (that returns) the run of the call -/
def Site (own : String) (i : Instr) (na : Nat) (rc : Option Nat) (M' : MI) : Prop :=
  ∀ {g : Cx} {l : Launch} {p : Program} {e : Env} {R : Room} {s : State} {m : MethodId} {args : Array Value} {below : List Frame} {meth : Method} {c : Code} {H : Heap} {locs : List Loc} {cells slots : Nat} {cc : ByteArray} {nL d k n pc : Nat} {As rest : List Value} {μ : Mem} {Q : Outcome → Mem → Nat → Nat → Prop} {ls : Array Slot},
    CallFix p m c cc nL s args lw_all own → mK g s → mE g s s.heap → va_S (gA g) s.heap H locs → mP g μ H → Ms g l d k n M' As μ Q → (∀ o μ' k' n', Q o μ' k' n' → ∃ v, o = .returned v) →
    d + 1 ≤ R.frames → 64 * d + 64 ≤ R.locals → cells + k ≤ R.cells → slots + n ≤ R.slots → ls.size = nL → As.length = na → (∀ ci, rc = some ci → ∃ b As' fs, As = .ref b :: As' ∧ μ b = some (cO ci fs)) → (rest.map fun v => v.category).sum ≤ 8 → decode cc pc = .ok (i, 3) →
    RunC g p l e R s m args below meth c H locs cells slots k n (F0 m pc ls (As.reverse ++ rest)) rest Q
theorem b_call {i : Instr} {na d' : Nat} {rc : Option Nat} {M' : MI} {As rest : List Value} {Q' : Outcome → Mem → Nat → Nat → Prop} (hs : Site M.1.cls i na rc M') (hd : decode M.2.1 pc = .ok (i, 3)) (hst : st = As.reverse ++ rest) (hna : As.length = na) (hrc : ∀ ci, rc = some ci → ∃ b As' fs, As = .ref b :: As' ∧ μ b = some (cO ci fs))
    (hm : Ms g l d' k n M' As μ Q') (hr : ∀ o μ' k' n', Q' o μ' k' n' → ∃ v, o = .returned v) (hd1 : d' + 1 ≤ d) (hW : (rest.map fun v => v.category).sum ≤ 8)
    (kk : ∀ v μ' k' n', k' ≤ k → n' ≤ n → Q' (.returned v) μ' k' n' → bB g l M d Q (pc + 3) L (v.toList ++ rest) μ' k' n') : bB g l M d Q pc L st μ k n := by
  subst hst
  intro p e R s m args below meth c H locs cells slots Z ls F hz h1 h2 hS hP hl
  have hE := F.2.2.2.2.2.2.2.2.1
  have hrun := hs (g := g) (l := l) (p := p) (e := e) (R := R) (s := s) (m := m) (args := args) (below := below) (meth := meth) (c := c) (H := H) (locs := locs) (cells := cells) (slots := slots) (cc := M.2.1) (nL := M.2.2.1) (rest := rest) (ls := ls) (pc := pc)
    ⟨F.1, F.2.1, F.2.2.1, F.2.2.2.2.2.1, F.2.2.2.2.2.2.1⟩ F.2.2.2.2.2.2.2.1 hE hS hP hm hr (by have := F.2.2.2.2.2.2.2.2.2.1; omega) (by have := F.2.2.2.2.2.2.2.2.2.2.1; omega) (by omega) (by omega) hl.1 hna hrc hW hd
  intro T hT X
  obtain ⟨v, T', L9, μ', k', n', hk, hn, X', hL9, m1, m2, hz9, hk9, stp⟩ := hrun T hT X
  have hS' : va_S (gA g) s.heap T'.heap (locs ++ L9) := ⟨Nat.le_trans hS.1 hz9, fun q a1 a2 => by rw [hk9 q (Nat.lt_of_lt_of_le a1 hS.1) a2]; exact hS.2.1 q a1 a2, fun q hq => by
    rcases List.mem_append.mp hq with hq | hq
    · exact hS.2.2 q hq
    · exact hL9 q hq⟩
  obtain ⟨t2, a1, b1⟩ := kk v μ' k' n' hk hn m2 p e R s m args below meth c T'.heap (locs ++ L9) (cells + (k - k')) (slots + (n - n')) Z ls F hz (by omega) (by omega) hS' m1 hl T' rfl X'
  exact ⟨t2, stp t2 a1, b1⟩
/-- what is asked of a callee's start is blind to the frames, and rides to the call -/
theorem inv_blind {As : List Value} : FrameBlind (va_Pc As (inv g μ)) := by
  intro a U f mk h
  obtain ⟨h1, h2, h3, h4⟩ := h
  exact ⟨h1, h2, h3.same (s := U) rfl, h4.moved (u := U) (Vm.Alike.refl U.vm)⟩
theorem inv_at {s : State} {H : Heap} {locs : List Loc} {As : List Value} (hK : mK g s) (hE : mE g s s.heap) (hS : va_S (gA g) s.heap H locs) (hP : mP g μ H) : ∀ U : State, U.heap = H → s.WarmedH U.vm → va_Pc As (inv g μ) As.toArray U := by
  intro U hU hW
  subst hU
  exact ⟨rfl, hP, hK.warm hW, (hE.kept hS.1 hS.2.1).moved hW.alike⟩
theorem recv_at {s : State} {H : Heap} {b ci : Nat} {fs : List Value} {r : vw_C} (hK : mK g s) (hP : mP g μ H) (hb : μ b = some (cO ci fs)) (hr : clsL[ci]? = some r) : ∃ cellB : Cell, H[b]? = some cellB ∧ cellB.vm.isStatics = false ∧ s.vm.findClass r.1 = some cellB.cls :=
  va_recv hK.1 (hP.one hb) hr (q0 := 0) rfl
theorem rev1 {b : Nat} {As rest : List Value} : (Value.ref b :: As).reverse ++ rest = As.reverse ++ .ref b :: rest := by simp
/-- points of the callee's start and end -/
def PreC (g : Cx) (R : Room) (k n : Nat) (As : List Value) (μ : Mem) : Pt → Array Value → Prop := fun A a => A.cells + k ≤ R.cells ∧ A.slots + n ≤ R.slots ∧ va_Pc As (inv g μ) a A.U
def PostC (g : Cx) (k n : Nat) (Q : Outcome → Mem → Nat → Nat → Prop) : Pt → Array Value → Option Value → Pt → Prop := fun A _ v B =>
  ∃ (μ' : Mem) (k' n' : Nat) (L : List Loc), k' ≤ k ∧ n' ≤ n ∧ mP g μ' B.U.heap ∧ Q (.returned v) μ' k' n' ∧ A.U.heap.size ≤ B.U.heap.size ∧ (∀ q : Nat, q < A.U.heap.size → ¬ gA g q → B.U.heap[q]? = A.U.heap[q]?) ∧ B.locs = A.locs ++ L ∧ (∀ q ∈ L, gA g q.base) ∧ B.cells = A.cells + (k - k') ∧ B.slots = A.slots + (n - n')
theorem backC {l : Launch} {R : Room} {p : Program} {e : Env} {below : List Frame} {s : State} {sargs : Array Value} {y : MethodName} {b : ByteArray} {mL : Nat} {r : Option FieldType} {d k n : Nat} {As : List Value} {μ : Mem} {Q : Outcome → Mem → Nat → Nat → Prop}
    (hM : Ms g l d k n (y, b, mL, r, []) As μ Q) (hr : ∀ o μ' k' n', Q o μ' k' n' → ∃ v, o = .returned v) (hts : ∀ w ∈ lw_all, w.before sargs s = true) (hcode : Cond.code y b mL r ∈ lw_all) (hini : Cond.initialized y.cls ∈ lw_all) (hmL : mL ≤ 37) (hf : d + 1 ≤ R.frames) (hlo : 64 * d + 64 ≤ R.locals) :
    Back l R p e below s sargs y 3 8 (PreC g R k n As μ) (PostC g k n Q) := by
  have hg : ∀ w ∈ lw_all, ∀ (a' : Array Value) (U : State), s.WarmedH U.vm → w.before a' U = true := pay_in hts lw_self
  refine Back.of_free (S := headSpec (ws_ y b mL r) (rmM d k n)) (K := fun _ _ _ _ _ => True) (bytes := b) (maxL := mL) (ret := r)
    (E := fun a st o t L k1 n1 => ∃ (μ' : Mem) (k' n' : Nat), mP g μ' t.heap ∧ Q o μ' k' n' ∧ va_F (gA g) st t ∧ k' ≤ k ∧ n' ≤ n ∧ k1 = k - k' ∧ n1 = n - n' ∧ ∀ q ∈ L, gA g q.base) hM hf (by show 8 + (mL + 11) + 64 * d ≤ _; omega) ?_ ?_ (fun _ _ _ _ _ _ _ _ _ => trivial) ?_ ?_
  · intro m meth c A a X hp
    refine ⟨atoms_intro fun w hw => ?_, hg _ hcode _ _ X.warmed, hg _ hini _ _ X.warmed, hp.1, hp.2.1⟩
    rcases List.mem_cons.mp hw with h | h
    · rw [h]; exact hg _ hcode _ _ X.warmed
    · exact hg _ h _ _ X.warmed
  · intro m meth c A a g9 mk X hp
    exact inv_blind _ _ _ _ hp.2.2
  · intro a st o t ⟨μ', k', n', h4, h5, h6, h7, h8, L, h9, h10⟩
    exact ⟨L, _, _, ⟨hr _ _ _ _ h5, h9.1, h9.2⟩, μ', k', n', h4, h5, h6, h7, h8, rfl, rfl, h10⟩
  · intro m meth c A a g9 mk v t L k1 n1 X hp _ hF ⟨μ', k', n', h4, h5, h6, h7, h8, e1, e2, h10⟩
    subst e1; subst e2
    exact ⟨μ', k', n', L, h7, h8, h4, h5, h6.1, h6.2, rfl, h10, rfl, rfl⟩
theorem runC {g : Cx} {p : Program} {l : Launch} {e : Env} {R : Room} {s : State} {m : MethodId} {args : Array Value} {below : List Frame} {meth : Method} {c : Code} {H : Heap} {locs : List Loc} {cells slots k n : Nat} {f : JFrame} {rest : List Value} {Q : Outcome → Mem → Nat → Nat → Prop} {a : Array Value}
    (h : ∀ T : State, T.heap = H → Stand p l e R s m args below meth c T locs cells slots → ∃ (v : Option Value) (vm₁ : Vm) (B : Pt), s.WarmedH vm₁ ∧ Stand p l e R s m args below meth c B.U B.locs B.cells B.slots ∧ PostC g k n Q ⟨T.setVm vm₁, locs, cells, slots⟩ a v B ∧
      ∀ target, Steps p.tables e below (B.U.setTop { f with pc := f.pc + 3, stack := v.toList ++ rest }) target → Steps p.tables e below (T.setTop f) target) : RunC g p l e R s m args below meth c H locs cells slots k n f rest Q := by
  intro T hT X
  obtain ⟨v, vm₁, ⟨U', l2, c2, s2⟩, hW, X', ⟨μ', k', n', L, a1, a2, a3, a4, a5, a6, a7, a8, a9, a10⟩, st⟩ := h T hT X
  dsimp only [Pt.U, Pt.locs, Pt.cells, Pt.slots] at X' a3 a5 a6 a7 a9 a10 st
  subst a7; subst a9; subst a10
  subst hT
  exact ⟨v, U', L, μ', k', n', a1, a2, X', a8, a3, a4, a5, a6, st⟩
theorem len_of {d : String} {na : Nat} (h : (parseMethodDescriptor d).map (fun d => d.parameters.length) = some na) {sig : MethodDescriptor} (hs : parseMethodDescriptor d = some sig) : na = sig.parameters.length := by
  rw [hs] at h
  exact (Option.some.inj h).symm
/-- through an object, a method of its own class -/
theorem site_V {own : String} {idx : Nat} {y : MethodName} {b : ByteArray} {mL : Nat} {r : Option FieldType} {na ci : Nat} {q : vw_C} (h1 : Cond.methodLink own idx y ∈ lw_all) (h2 : Cond.instanceMethod y ∈ lw_all) (h3 : Cond.selects y.cls y y ∈ lw_all) (h4 : Cond.initialized y.cls ∈ lw_all) (h5 : Cond.code y b mL r ∈ lw_all)
    (hci : clsL[ci]? = some q) (hC : q.1 = y.cls) (hmL : mL ≤ 37) (hd : y.cls ≠ "java/lang/invoke/MethodHandle" ∧ y.cls ≠ "java/lang/invoke/VarHandle" ∧ (parseMethodDescriptor y.desc).map (fun d => d.parameters.length) = some na) : Site own (.invokevirtual idx) (na + 1) (some ci) (y, b, mL, r, []) := by
  intro g l p e R s m args below meth c H locs cells slots cc nL d k n pc As rest μ Q ls S hK hE hS hP hM hr hf hlo hc hs hls hna hrc hW hdg
  obtain ⟨bb, As', fs, rfl, hb⟩ := hrc ci rfl
  obtain ⟨hx, hcc, hml, hown, hts⟩ := S
  obtain ⟨cellB, q1, q2, q3⟩ := recv_at hK hP hb hci
  rw [hC] at q3
  rw [rev1]
  refine runC (a := (Value.ref bb :: As').toArray) fun T hT X => ?_
  exact callV X hx (C := y.cls) (bytes := b) (maxL := mL) (ret := r) hown (hts _ h1) (hts _ h2) (hts _ h3) (hts _ h5) ⟨hd.1, hd.2.1⟩ (backC hM hr hts h5 h4 hmL hf hlo) (by rw [hT]; exact q1) q2 q3 rfl (hls.trans hml.symm) (argsL := As') (rest := rest) (fun sig h => by rw [← len_of hd.2.2 h]; simpa using hna) rfl (by show 2 * 0 + _ ≤ 8; omega) (by rw [hcc]; exact hdg)
    (fun vm₁ hW₁ => ⟨hc, hs, inv_at hK hE hS hP (T.setVm vm₁) hT hW₁⟩)
/-- static -/
theorem site_S {own : String} {idx : Nat} {y : MethodName} {b : ByteArray} {mL : Nat} {r : Option FieldType} {na : Nat} (h1 : Cond.methodLink own idx y ∈ lw_all) (h2 : Cond.static y ∈ lw_all) (h3 : Cond.initialized y.cls ∈ lw_all) (h4 : Cond.code y b mL r ∈ lw_all)
    (hmL : mL ≤ 37) (hd : y.cls ≠ "java/lang/invoke/MethodHandle" ∧ y.cls ≠ "java/lang/invoke/VarHandle" ∧ (parseMethodDescriptor y.desc).map (fun d => d.parameters.length) = some na) : Site own (.invokestatic idx) na none (y, b, mL, r, []) := by
  intro g l p e R s m args below meth c H locs cells slots cc nL d k n pc As rest μ Q ls S hK hE hS hP hM hr hf hlo hc hs hls hna hrc hW hdg
  obtain ⟨hx, hcc, hml, hown, hts⟩ := S
  refine runC (a := As.toArray) fun T hT X => ?_
  exact callS X hx (bytes := b) (maxL := mL) (ret := r) hown (hts _ h1) (hts _ h2) (hts _ h3) (hts _ h4) ⟨hd.1, hd.2.1⟩ (backC hM hr hts h4 h3 hmL hf hlo) rfl (hls.trans hml.symm) (argsL := As) (rest := rest) (fun sig h => by rw [← len_of hd.2.2 h]; exact hna) rfl (by show 2 * 0 + _ ≤ 8; omega) (by rw [hcc]; exact hdg)
    (fun vm₁ hW₁ => ⟨hc, hs, inv_at hK hE hS hP (T.setVm vm₁) hT hW₁⟩)
/-- a constructor -/
theorem site_I {own : String} {idx : Nat} {y : MethodName} {b : ByteArray} {mL : Nat} {na : Nat} {ci : Nat} (h1 : Cond.methodLink own idx y ∈ lw_all) (h2 : Cond.instanceMethod y ∈ lw_all) (h3 : Cond.initialized y.cls ∈ lw_all) (h4 : Cond.code y b mL none ∈ lw_all) (hn : y.name = "<init>")
    (hmL : mL ≤ 37) (hd : y.cls ≠ "java/lang/invoke/MethodHandle" ∧ y.cls ≠ "java/lang/invoke/VarHandle" ∧ (parseMethodDescriptor y.desc).map (fun d => d.parameters.length) = some na) : Site own (.invokespecial idx) (na + 1) (some ci) (y, b, mL, none, []) := by
  intro g l p e R s m args below meth c H locs cells slots cc nL d k n pc As rest μ Q ls S hK hE hS hP hM hr hf hlo hc hs hls hna hrc hW hdg
  obtain ⟨bb, As', fs, rfl, hb⟩ := hrc ci rfl
  obtain ⟨hx, hcc, hml, hown, hts⟩ := S
  rw [rev1]
  refine runC (a := (Value.ref bb :: As').toArray) fun T hT X => ?_
  exact callI X hx (bytes := b) (maxL := mL) hown hn (hts _ h1) (hts _ h2) (hts _ h4) ⟨hd.1, hd.2.1⟩ (backC hM hr hts h4 h3 hmL hf hlo) rfl (hls.trans hml.symm) (a := bb) (argsL := As') (rest := rest) (fun sig h => by rw [← len_of hd.2.2 h]; simpa using hna) rfl (by show 2 * 0 + _ ≤ 8; omega) (by rw [hcc]; exact hdg)
    (fun vm₁ hW₁ => ⟨hc, hs, inv_at hK hE hS hP (T.setVm vm₁) hT hW₁⟩)
/-- a nest mate's own constructor -/
theorem site_N {own host : String} {idx : Nat} {y : MethodName} {b : ByteArray} {mL : Nat} {na : Nat} {ci : Nat} (h1 : (own, idx, y, host) ∈ nwM) (h2 : Cond.instanceMethod y ∈ lw_all) (h3 : Cond.initialized y.cls ∈ lw_all) (h4 : Cond.code y b mL none ∈ lw_all) (hn : y.name = "<init>")
    (hmL : mL ≤ 37) (hd : y.cls ≠ "java/lang/invoke/MethodHandle" ∧ y.cls ≠ "java/lang/invoke/VarHandle" ∧ (parseMethodDescriptor y.desc).map (fun d => d.parameters.length) = some na) : Site own (.invokespecial idx) (na + 1) (some ci) (y, b, mL, none, []) := by
  intro g l p e R s m args below meth c H locs cells slots cc nL d k n pc As rest μ Q ls S hK hE hS hP hM hr hf hlo hc hs hls hna hrc hW hdg
  obtain ⟨bb, As', fs, rfl, hb⟩ := hrc ci rfl
  obtain ⟨hx, hcc, hml, hown, hts⟩ := S
  rw [rev1]
  refine runC (a := (Value.ref bb :: As').toArray) fun T hT X => ?_
  exact va_callIN X hx (bytes := b) (maxL := mL) hown hn (va_Nw.use rfl (hK.2.1 _ h1)) (hts _ h2) (hts _ h4) ⟨hd.1, hd.2.1⟩ (backC hM hr hts h4 h3 hmL hf hlo) rfl (hls.trans hml.symm) (a := bb) (argsL := As') (rest := rest) (fun sig h => by rw [← len_of hd.2.2 h]; simpa using hna) rfl (by show 2 * 0 + _ ≤ 8; omega) (by rw [hcc]; exact hdg)
    (fun vm₁ hW₁ => ⟨hc, hs, inv_at hK hE hS hP (T.setVm vm₁) hT hW₁⟩)
/-- an abstract method x of Page, through an object of the class ci whose own method is y -/
theorem site_A {own : String} {idx : Nat} {x y : MethodName} {b : ByteArray} {mL : Nat} {r : Option FieldType} {na ci : Nat} {q : vw_C} (h1 : Cond.methodLink own idx x ∈ lw_all) (h2 : Cond.sameMethod x.cls x.cls x.name x.desc ∈ lw_all) (h3 : Cond.selects y.cls x y ∈ lw_all) (h4 : Cond.instanceMethod y ∈ lw_all) (h5 : Cond.initialized y.cls ∈ lw_all) (h6 : Cond.code y b mL r ∈ lw_all) (h7 : x ∈ nwD)
    (hci : clsL[ci]? = some q) (hC : q.1 = y.cls) (hmL : mL ≤ 37) (hd : x.cls ≠ "java/lang/invoke/MethodHandle" ∧ x.cls ≠ "java/lang/invoke/VarHandle" ∧ (parseMethodDescriptor x.desc).map (fun d => d.parameters.length) = some na) : Site own (.invokevirtual idx) (na + 1) (some ci) (y, b, mL, r, []) := by
  intro g l p e R s m args below meth c H locs cells slots cc nL d k n pc As rest μ Q ls S hK hE hS hP hM hr hf hlo hc hs hls hna hrc hW hdg
  obtain ⟨bb, As', fs, rfl, hb⟩ := hrc ci rfl
  obtain ⟨hx, hcc, hml, hown, hts⟩ := S
  obtain ⟨cellB, q1, q2, q3⟩ := recv_at hK hP hb hci
  rw [hC] at q3
  rw [rev1]
  refine runC (a := (Value.ref bb :: As').toArray) fun T hT X => ?_
  exact va_callVU X hx (C := y.cls) (owner := x.cls) (bytes := b) (maxL := mL) (ret := r) hown (hts _ h1) (hts _ h2) (va_Decl.abs (hK.2.2.2.1 _ h7)) ⟨hd.1, hd.2.1⟩ (hts _ h3) (hts _ h4) (hts _ h6) (backC hM hr hts h6 h5 hmL hf hlo) (by rw [hT]; exact q1) q2 q3 rfl (hls.trans hml.symm) (argsL := As') (rest := rest) (fun sig h => by rw [← len_of hd.2.2 h]; simpa using hna) rfl (by show 2 * 0 + _ ≤ 8; omega) (by rw [hcc]; exact hdg)
    (fun vm₁ hW₁ => ⟨hc, hs, inv_at hK hE hS hP (T.setVm vm₁) hT hW₁⟩)
/-! Object's own constructor, Math -/
theorem b_obj {idx a : Nat} (hd : decode M.2.1 pc = .ok (.invokespecial idx, 3)) (h1 : Cond.methodLink M.1.cls idx objectInit ∈ lw_all) (h2 : Cond.instanceMethod objectInit ∈ lw_all) (h3 : Cond.code objectInit ⟨#[0xb1]⟩ 1 none ∈ lw_all) (hd1 : 1 ≤ d) (hW : (st.map fun v => v.category).sum ≤ 8) (kk : bB g l M d Q (pc + 3) L st μ k n) : bB g l M d Q pc L (.ref a :: st) μ k n := by
  intro p e R s m args below meth c H locs cells slots Z ls F q1 q2 q3 hS hP hl
  have hts := F.2.2.2.2.2.2.1
  have f1 := F.2.2.2.2.2.2.2.2.2.1
  have f2 := F.2.2.2.2.2.2.2.2.2.2.1
  exact W.objInit F.1 F.2.1 F.2.2.2.2.2.1 (hts _ h1) (hts _ h2) (hts _ h3) rfl (by rw [F.2.2.1]; exact hl.1) rfl hd (by omega) (by show 2 * 0 + _ + 12 ≤ _; omega) (kk p e R s m args below meth c H locs cells slots Z ls F q1 q2 q3 hS hP hl)
theorem b_mmax {idx : Nat} {x y : Int32} (hd : decode M.2.1 pc = .ok (.invokestatic idx, 3)) (h1 : Cond.methodLink M.1.cls idx Lib.Math.max.name ∈ lw_all) (hd1 : 1 ≤ d) (hW : (st.map fun v => v.category).sum ≤ 8) (kk : bB g l M d Q (pc + 3) L (.int (if x < y then y else x) :: st) μ k n) : bB g l M d Q pc L (.int y :: .int x :: st) μ k n := by
  intro p e R s m args below meth c H locs cells slots Z ls F q1 q2 q3 hS hP hl
  have hts := F.2.2.2.2.2.2.1
  have f1 := F.2.2.2.2.2.2.2.2.2.1
  have f2 := F.2.2.2.2.2.2.2.2.2.2.1
  exact va_mmax F.1 F.2.1 (by rw [F.2.2.1, hl.1]) F.2.2.2.2.2.1 (hts _ h1) (hts _ q301) (hts _ q37) (hts _ q302) (by omega) (by omega) (by omega) (by omega) hd (kk p e R s m args below meth c H locs cells slots Z ls F q1 q2 q3 hS hP hl)
theorem b_mmin {idx : Nat} {x y : Int32} (hd : decode M.2.1 pc = .ok (.invokestatic idx, 3)) (h1 : Cond.methodLink M.1.cls idx Lib.Math.min.name ∈ lw_all) (hd1 : 1 ≤ d) (hW : (st.map fun v => v.category).sum ≤ 8) (kk : bB g l M d Q (pc + 3) L (.int (if y < x then y else x) :: st) μ k n) : bB g l M d Q pc L (.int y :: .int x :: st) μ k n := by
  intro p e R s m args below meth c H locs cells slots Z ls F q1 q2 q3 hS hP hl
  have hts := F.2.2.2.2.2.2.1
  have f1 := F.2.2.2.2.2.2.2.2.2.1
  have f2 := F.2.2.2.2.2.2.2.2.2.2.1
  exact va_mmin F.1 F.2.1 (by rw [F.2.2.1, hl.1]) F.2.2.2.2.2.1 (hts _ h1) (hts _ q327) (hts _ q37) (hts _ q328) (by omega) (by omega) (by omega) (by omega) hd (kk p e R s m args below meth c H locs cells slots Z ls F q1 q2 q3 hS hP hl)
theorem b_mmaxJ {idx : Nat} {x y : Int64} (hd : decode M.2.1 pc = .ok (.invokestatic idx, 3)) (h1 : Cond.methodLink M.1.cls idx Lib.MathLoose.max_long.x ∈ lw_all) (hd1 : 1 ≤ d) (hW : (st.map fun v => v.category).sum ≤ 8) (kk : bB g l M d Q (pc + 3) L (.long (if y < x then x else y) :: st) μ k n) : bB g l M d Q pc L (.long y :: .long x :: st) μ k n := by
  intro p e R s m args below meth c H locs cells slots Z ls F q1 q2 q3 hS hP hl
  have hts := F.2.2.2.2.2.2.1
  have f1 := F.2.2.2.2.2.2.2.2.2.1
  have f2 := F.2.2.2.2.2.2.2.2.2.2.1
  exact va_mmax_long F.1 F.2.1 (by rw [F.2.2.1, hl.1]) F.2.2.2.2.2.1 (hts _ h1) (hts _ q406) (hts _ q37) (hts _ q407) (by omega) (by omega) (by omega) (by omega) hd (kk p e R s m args below meth c H locs cells slots Z ls F q1 q2 q3 hS hP hl)
end CA
