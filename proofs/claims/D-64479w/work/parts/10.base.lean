/-! BASE: memory as a function; the judgements bB (inside a method) and Ms (a method's contract) -/
set_option maxRecDepth 100000
abbrev Cel : Type := (Nat × List Value) ⊕ (Nat × (List Int32 ⊕ (List Int64 ⊕ List (Option Nat))))
abbrev Mem : Type := Nat → Option Cel
/-- an object of the class with number c, its fields in the table's order -/
def cO (c : Nat) (fs : List Value) : Cel := .inl (c, fs)
/-- arrays: 0 int, 2 boolean, 3 byte (all by ints); 1 long; 4.. references -/
def cI (l : List Int32) : Cel := .inr (0, .inl l)
def cZ (l : List Int32) : Cel := .inr (2, .inl l)
def cB (l : List Int32) : Cel := .inr (3, .inl l)
def cJ (l : List Int64) : Cel := .inr (1, .inr (.inl l))
def cR (k : Nat) (l : List (Option Nat)) : Cel := .inr (k, .inr (.inr l))
def tyA (k : Nat) : FieldType := match k with
  | 0 => .int
  | 1 => .long
  | 2 => .boolean
  | 3 => .byte
  | 4 => .object "LazyPages$Message"
  | 5 => .object "LazyPages$Page"
  | 6 => .object "LazyPages$Row"
  | 7 => .object "LazyPages$Letters"
  | _ => .object "LazyPages$Pages"
def mset (μ : Mem) (a : Nat) (c : Cel) : Mem := fun q => if q = a then some c else μ q
theorem mset_s {μ : Mem} {a : Nat} {c : Cel} : mset μ a c a = some c := if_pos rfl
theorem mset_n {μ : Mem} {a q : Nat} {c : Cel} (h : q ≠ a) : mset μ a c q = μ q := if_neg h
/-- the classes by number -/
def clsL : List vw_C := [(RX1, TX1, 12), (RX1, TX1, 12), (RX3, TX3, 2), (RX3, TX3, 2), (RX4, TX4, 3), (RX5, TX5, 2), (RX6, TX6, 4), (RX7, TX7, 2), (RX8, TX8, 11), (RX9, TX9, 4), (RX10, TX10, 3), (RX11, TX11, 3), (RJ4, TJ4, 0), (RJ5, TJ5, 0), (RJ6, TJ6, 0)]
abbrev Cx : Type := va_G × (Nat → ClassId) × Nat × (Nat × Nat × (Nat → Int32))
def trc (dA : Nat → ClassId) (c : Cel) : va_E := match c with
  | .inl (k, fs) => .inr (k, fs)
  | .inr (k, .inl l) => .inl (dA k, l.length, .inl (fun j => l.getD j 0))
  | .inr (k, .inr (.inl l)) => .inl (dA k, l.length, .inr (.inl (fun j => l.getD j 0)))
  | .inr (k, .inr (.inr l)) => .inl (dA k, l.length, .inr (.inr (.inr (.inr (fun j => l.getD j none)))))
def tysL (dA : Nat → ClassId) : List (ClassId × FieldType) := (List.range 9).map (fun k => (dA k, tyA k))
theorem tysL_at {dA : Nat → ClassId} {k : Nat} (h : k < 9) : (tysL dA)[k]? = some (dA k, tyA k) := by
  simp [tysL, h]
def gA (g : Cx) : Nat → Prop := fun q => g.2.2.1 ≤ q
def mP (g : Cx) (μ : Mem) (H : Heap) : Prop := ∀ a c, μ a = some c → va_at g.1 clsL (a, trc g.2.1 c) H ∧ g.2.2.1 ≤ a
/-- what is outside: the script, two statics of Throwable -/
def mE (g : Cx) (U : State) (H : Heap) : Prop := va_X g.2.2.2.1 g.2.2.2.2.1 g.2.2.2.2.2 U H ∧ g.2.2.2.1 < g.2.2.1 ∧ va_Zq "java/lang/Throwable" "UNASSIGNED_STACK" "[Ljava/lang/StackTraceElement;" (gA g) U H ∧ va_Zq "java/lang/Throwable" "SUPPRESSED_SENTINEL" "Ljava/util/List;" (gA g) U H ∧ g.2.2.1 ≤ H.size
/-- words of the tables that don't ride in the lists -/
def nwM : List (String × Nat × MethodName × String) := [("LazyPages", 13, ({ cls := "LazyPages$Row", name := "<init>", desc := "()V" } : Jvm.MethodName), "LazyPages"), ("LazyPages", 25, ({ cls := "LazyPages$Pair", name := "<init>", desc := "()V" } : Jvm.MethodName), "LazyPages"), ("LazyPages", 41, ({ cls := "LazyPages$Work", name := "<init>", desc := "()V" } : Jvm.MethodName), "LazyPages"), ("LazyPages", 48, ({ cls := "LazyPages$Letters", name := "<init>", desc := "()V" } : Jvm.MethodName), "LazyPages"), ("LazyPages", 92, ({ cls := "LazyPages$Pages", name := "<init>", desc := "()V" } : Jvm.MethodName), "LazyPages"), ("LazyPages$Work", 39, ({ cls := "LazyPages$Pages", name := "<init>", desc := "()V" } : Jvm.MethodName), "LazyPages"), ("LazyPages$Work", 30, ({ cls := "LazyPages$Letters", name := "<init>", desc := "()V" } : Jvm.MethodName), "LazyPages"), ("LazyPages$Work", 41, ({ cls := "LazyPages$Row", name := "<init>", desc := "()V" } : Jvm.MethodName), "LazyPages"), ("LazyPages$Leaf", 53, ({ cls := "LazyPages$Row", name := "<init>", desc := "()V" } : Jvm.MethodName), "LazyPages"), ("LazyPages$Inner", 93, ({ cls := "LazyPages$Pages", name := "<init>", desc := "()V" } : Jvm.MethodName), "LazyPages"), ("LazyPages$Inner", 99, ({ cls := "LazyPages$Letters", name := "<init>", desc := "()V" } : Jvm.MethodName), "LazyPages")]
def nwC : List (String × String) := [("java/lang/UnsupportedOperationException", "java/lang/UnsupportedOperationException"), ("java/lang/IllegalArgumentException", "java/lang/IllegalArgumentException"), ("LazyPages$Leaf", "LazyPages$Page"), ("LazyPages$Inner", "LazyPages$Page"), ("java/lang/IndexOutOfBoundsException", "java/lang/IndexOutOfBoundsException"), ("java/lang/ArrayIndexOutOfBoundsException", "java/lang/ArrayIndexOutOfBoundsException"), ("java/lang/ArrayIndexOutOfBoundsException", "java/lang/IndexOutOfBoundsException")]
def nwD : List MethodName := [({ cls := "java/lang/RuntimeException", name := "<init>", desc := "()V" } : Jvm.MethodName), ({ cls := "java/lang/RuntimeException", name := "<init>", desc := "(Ljava/lang/String;)V" } : Jvm.MethodName), ({ cls := "java/lang/Throwable", name := "<init>", desc := "()V" } : Jvm.MethodName), ({ cls := "java/lang/Throwable", name := "<init>", desc := "(Ljava/lang/String;)V" } : Jvm.MethodName), ({ cls := "java/lang/Exception", name := "<init>", desc := "()V" } : Jvm.MethodName), ({ cls := "java/lang/Exception", name := "<init>", desc := "(Ljava/lang/String;)V" } : Jvm.MethodName), ({ cls := "java/lang/IndexOutOfBoundsException", name := "<init>", desc := "()V" } : Jvm.MethodName), ({ cls := "java/lang/IndexOutOfBoundsException", name := "<init>", desc := "(Ljava/lang/String;)V" } : Jvm.MethodName), ({ cls := "LazyPages$Page", name := "settle", desc := "(IIILLazyPages$Work;I)LLazyPages$Pages;" } : Jvm.MethodName), ({ cls := "LazyPages$Page", name := "isQuiet", desc := "()Z" } : Jvm.MethodName), ({ cls := "LazyPages$Page", name := "take", desc := "(LLazyPages$Letters;IIILLazyPages$Work;I)LLazyPages$Pages;" } : Jvm.MethodName), ({ cls := "LazyPages$Page", name := "collect", desc := "(IILLazyPages$Row;LLazyPages$Work;I)V" } : Jvm.MethodName), ({ cls := "LazyPages$Page", name := "isSound", desc := "(II)Z" } : Jvm.MethodName), ({ cls := "LazyPages$Page", name := "read", desc := "(ILLazyPages$Pair;)V" } : Jvm.MethodName)]
def aoL : List String := ["LazyPages$Message", "LazyPages$Page", "LazyPages$Row", "LazyPages$Letters", "LazyPages$Pages"]
def srL : List (Nat × String) := [(74, "too many"), (62, "not as said"), (69, "not there")]
def mN (U : State) : Prop := (∀ q ∈ nwM, va_Nw (.methodLinkNest q.1 q.2.1 q.2.2.1 q.2.2.2) U) ∧ (∀ q ∈ nwC, va_Nw (.castable q.1 q.2) U) ∧ (∀ q ∈ nwD, va_Nw (.declares q) U) ∧ (∀ q ∈ aoL, va_AO q U) ∧ ∀ q ∈ srL, va_Nw (.stringRef "LazyPages" q.1 q.2) U
theorem sr_same {s U : State} {i : Nat} {x : String} (hv : s.vm = U.vm) (h : va_Nw (.stringRef "LazyPages" i x) s) : va_Nw (.stringRef "LazyPages" i x) U := by
  have e1 : s.poolOf? "LazyPages" = U.poolOf? "LazyPages" := by unfold State.poolOf?; rw [hv]
  have e2 : s.names "LazyPages" i (.string x) = U.names "LazyPages" i (.string x) := by unfold State.names; rw [e1]
  have e3 : s.resolvedAt? "LazyPages" i = U.resolvedAt? "LazyPages" i := by unfold State.resolvedAt?; rw [hv]
  unfold va_Nw at h ⊢
  simp only [Cond.before, Cond.holds, Cond.value] at h ⊢
  rw [← e2, ← e3, ← hv]
  exact h
theorem sr_warm {s U : State} {i : Nat} {x : String} (hW : s.WarmedH U.vm) (h : va_Nw (.stringRef "LazyPages" i x) s) : va_Nw (.stringRef "LazyPages" i x) U :=
  sr_same (s := s.setVm U.vm) rfl (Cond.stringRef_warmed hW h)
def mK (g : Cx) (U : State) : Prop := va_K g.1 clsL (tysL g.2.1) U ∧ mN U
def inv (g : Cx) (μ : Mem) (U : State) : Prop := mP g μ U.heap ∧ mK g U ∧ mE g U U.heap
theorem mN.warm {s U : State} (hW : s.WarmedH U.vm) (h : mN s) : mN U :=
  ⟨fun q hq => va_Nw.warmM hW (h.1 q hq), fun q hq => va_Nw.warmC hW (h.2.1 q hq), fun q hq => va_Nw.warmD hW (h.2.2.1 q hq), fun q hq => va_AO.moved hW.alike (h.2.2.2.1 q hq), fun q hq => sr_warm hW (h.2.2.2.2 q hq)⟩
theorem mN.same {s U : State} (hv : s.vm = U.vm) (h : mN s) : mN U :=
  ⟨fun q hq => va_Nw.same rfl hv (h.1 q hq), fun q hq => va_Nw.same rfl hv (h.2.1 q hq), fun q hq => va_Nw.same rfl hv (h.2.2.1 q hq), fun q hq => va_AO.moved (by rw [hv]; exact Vm.Alike.refl _) (h.2.2.2.1 q hq), fun q hq => sr_same hv (h.2.2.2.2 q hq)⟩
theorem mK.warm {g : Cx} {s U : State} (hW : s.WarmedH U.vm) (h : mK g s) : mK g U := ⟨va_K.moved hW.alike h.1, h.2.warm hW⟩
theorem mK.same {g : Cx} {s U : State} (hv : s.vm = U.vm) (h : mK g s) : mK g U := ⟨va_K.moved (by rw [hv]; exact Vm.Alike.refl _) h.1, h.2.same hv⟩
theorem mE.moved {g : Cx} {u U : State} {H : Heap} (hvm : u.vm.Alike U.vm) (h : mE g u H) : mE g U H :=
  ⟨h.1.moved hvm, h.2.1, h.2.2.1.moved hvm, h.2.2.2.1.moved hvm, h.2.2.2.2⟩
theorem mE.kept {g : Cx} {U : State} {H H1 : Heap} (h : mE g U H) (hz : H.size ≤ H1.size) (hq : ∀ q : Nat, q < H.size → ¬ gA g q → H1[q]? = H[q]?) : mE g U H1 :=
  ⟨h.1.kept (hq _ (Nat.lt_of_lt_of_le h.2.1 h.2.2.2.2) (fun z => absurd h.2.1 (Nat.not_lt.mpr z))), h.2.1, h.2.2.1.kept hq, h.2.2.2.1.kept hq, Nat.le_trans h.2.2.2.2 hz⟩
theorem mP.lt {g : Cx} {μ : Mem} {H : Heap} (h : mP g μ H) {a : Nat} {c : Cel} (ha : μ a = some c) : a < H.size := (h a c ha).1.lt
theorem mP.one {g : Cx} {μ : Mem} {H : Heap} (h : mP g μ H) {a : Nat} {c : Cel} (ha : μ a = some c) : va_P g.1 clsL [(a, trc g.2.1 c)] H := by
  intro k q hk
  have hz : k < 1 := (List.getElem?_eq_some_iff.mp hk).1
  rw [show k = 0 by omega] at hk
  cases hk
  exact (h a c ha).1
theorem mP.set {g : Cx} {μ : Mem} {H H1 : Heap} (h : mP g μ H) {a : Nat} {c : Cel} (hA : g.2.2.1 ≤ a) (he : va_at g.1 clsL (a, trc g.2.1 c) H1) (oq : ∀ q : Nat, q ≠ a → H1[q]? = H[q]?) : mP g (mset μ a c) H1 := by
  intro b e hb
  by_cases hba : b = a
  · subst hba
    rw [mset_s] at hb
    cases hb
    exact ⟨he, hA⟩
  · rw [mset_n hba] at hb
    exact ⟨(h b e hb).1.kept (oq b hba), (h b e hb).2⟩
theorem mP.push {g : Cx} {μ : Mem} {H H1 : Heap} (h : mP g μ H) {c : Cel} (hA : g.2.2.1 ≤ H.size) (he : va_at g.1 clsL (H.size, trc g.2.1 c) H1) (oq : ∀ q : Nat, q < H.size → H1[q]? = H[q]?) : mP g (mset μ H.size c) H1 := by
  intro b e hb
  by_cases hba : b = H.size
  · subst hba
    rw [mset_s] at hb
    cases hb
    exact ⟨he, hA⟩
  · rw [mset_n hba] at hb
    exact ⟨(h b e hb).1.kept (oq b (h.lt hb)), (h b e hb).2⟩
theorem mP.fresh {g : Cx} {μ : Mem} {H : Heap} (h : mP g μ H) : μ H.size = none := by
  cases hm : μ H.size with
  | none => rfl
  | some c => exact absurd (h.lt hm) (Nat.lt_irrefl _)
/-! the method's card: name, code, number of locals, answer, handlers -/
abbrev MI : Type := MethodName × ByteArray × Nat × Option FieldType × List (Nat × Nat × Nat × Nat)
def wsM (M : MI) : List Cond := match M.2.2.2.2 with
  | [] => ws_ M.1 M.2.1 M.2.2.1 M.2.2.2.1
  | h :: t => wsW_ M.1 M.2.1 M.2.2.1 M.2.2.2.1 (h :: t)
def FrameT (first t : State) (L : List Loc) (k n : Nat) : Prop := first.WarmedH t.vm ∧ first.sameButNew ({ t with vm := first.vm } : State) L k n
def rmM (d k n : Nat) : Room := { frames := d, cells := k, slots := n, locals := 64 * d }
/-- a contract: credits k, n for cells and slots are given; the post says what is left of them -/
def Ms (g : Cx) (l : Launch) (d k n : Nat) (M : MI) (args : List Value) (μ : Mem) (Q : Outcome → Mem → Nat → Nat → Prop) : Prop :=
  MetFree l M.1 (headSpec (wsM M) (rmM d k n)) (va_Pc args (inv g μ)) (fun _ _ _ _ _ => True)
    (fun _ st o t => ∃ (μ' : Mem) (k' n' : Nat), mP g μ' t.heap ∧ Q o μ' k' n' ∧ va_F (gA g) st t ∧ k' ≤ k ∧ n' ≤ n ∧ ∃ L, FrameT st t L (k - k') (n - n') ∧ ∀ q ∈ L, gA g q.base)
theorem Ms.mono {g : Cx} {l : Launch} {d k n : Nat} {M : MI} {args : List Value} {μ : Mem} {Q Q' : Outcome → Mem → Nat → Nat → Prop} (h : Ms g l d k n M args μ Q) (hq : ∀ o μ' k' n', k' ≤ k → n' ≤ n → Q o μ' k' n' → Q' o μ' k' n') : Ms g l d k n M args μ Q' := by
  intro p e ha hc hk s m as below hf happ hP hK
  obtain ⟨z, o, h1, h2, h3, μ', k', n', h4, h5, h6, h7, h8, h9⟩ := h p e ha hc hk s m as below hf happ hP hK
  exact ⟨z, o, h1, h2, h3, μ', k', n', h4, hq _ _ _ _ h7 h8 h5, h6, h7, h8, h9⟩
/-! inside a method -/
def Fx (g : Cx) (M : MI) (d : Nat) (p : Program) (R : Room) (s : State) (m : MethodId) (args : Array Value) (meth : Method) (c : Code) : Prop :=
  p.tables.exec = Jvm.exec ∧ c.code = M.2.1 ∧ c.maxLocals = M.2.2.1 ∧ meth.sig.returnType = M.2.2.2.1 ∧ meth.locks = false ∧ s.vm.findClass M.1.cls = some m.cls ∧ (∀ w ∈ lw_all, w.before args s = true) ∧ mK g s ∧ mE g s s.heap ∧ d ≤ R.frames ∧ 64 * d ≤ R.locals ∧ meth.name = M.1.name ∧ c.exceptionTable.toList.map (fun x => (x.startPc, x.endPc, x.handlerPc, x.catchType)) = M.2.2.2.2
def Fz (g : Cx) (Q : Outcome → Mem → Nat → Nat → Prop) (R : Room) (s : State) (below : List Frame) (Z : State → Prop) : Prop :=
  ∀ (t : State) (o : Outcome) (μ' : Mem) (k' n' : Nat) (L : List Loc), t.status = .running → Ended t below o → mP g μ' t.heap → Q o μ' k' n' → va_F (gA g) s t → k' ≤ R.cells → n' ≤ R.slots → FrameT s t L (R.cells - k') (R.slots - n') → (∀ q ∈ L, gA g q.base) → Z t
def bB (g : Cx) (l : Launch) (M : MI) (d : Nat) (Q : Outcome → Mem → Nat → Nat → Prop) (pc : Nat) (L : List (Nat × Value)) (st : List Value) (μ : Mem) (k n : Nat) : Prop :=
  ∀ (p : Program) (e : Env) (R : Room) (s : State) (m : MethodId) (args : Array Value) (below : List Frame) (meth : Method) (c : Code) (H : Heap) (locs : List Loc) (cells slots : Nat) (Z : State → Prop) (ls : Array Slot),
    Fx g M d p R s m args meth c → Fz g Q R s below Z → cells + k ≤ R.cells → slots + n ≤ R.slots → va_S (gA g) s.heap H locs → mP g μ H → lv_has ls M.2.2.1 L →
    W p l e R s m args below meth c H locs cells slots Z (F0 m pc ls st)
theorem W.monoQ {p : Program} {l : Launch} {e : Env} {R : Room} {s : State} {m : MethodId} {args : Array Value} {below : List Frame} {meth : Method} {c : Code} {H : Heap} {locs : List Loc} {cells slots : Nat} {Q Q' : State → Prop} {g : JFrame} (h : ∀ t, Q t → Q' t) (k : W p l e R s m args below meth c H locs cells slots Q g) : W p l e R s m args below meth c H locs cells slots Q' g := by
  intro T hT X
  obtain ⟨t, a, b⟩ := k T hT X
  exact ⟨t, a, h t b⟩
