/-! RULES of bB, one per opcode -/
set_option maxRecDepth 100000
section RU
variable {g : Cx} {l : Launch} {M : MI} {d : Nat} {Q : Outcome → Mem → Nat → Nat → Prop} {pc : Nat} {L : List (Nat × Value)} {st : List Value} {μ : Mem} {k n : Nat}
def lo : List (Nat × Value) → Nat → Option Value
  | [], _ => none
  | (j, v) :: t, i => if j = i then some v else lo t i
theorem lo_mem {i : Nat} {v : Value} : ∀ {L : List (Nat × Value)}, lo L i = some v → (i, v) ∈ L := by
  intro L
  induction L with
  | nil => intro h; cases h
  | cons q t ih =>
    obtain ⟨j, w⟩ := q
    intro h
    unfold lo at h
    split at h
    · next e => cases h; subst e; exact List.mem_cons_self
    · exact List.mem_cons_of_mem _ (ih h)
theorem lo_has {ls : Array Slot} {nL i : Nat} {v : Value} {L : List (Nat × Value)} (h : lv_has ls nL L) (e : lo L i = some v) : ls[i]? = some (.val v) := h.2.2 (i, v) (lo_mem e)
def lset (L : List (Nat × Value)) (i : Nat) (v : Value) : List (Nat × Value) := (i, v) :: L.filter (fun q => !(q.1 == i) && !(q.1 + 1 == i && q.2.category == 2))
def lset2 (L : List (Nat × Value)) (i : Nat) (v : Value) : List (Nat × Value) := (i, v) :: L.filter (fun q => !(q.1 == i) && (!(q.1 == i + 1) && !(q.1 + 1 == i && q.2.category == 2)))
/-- fewer or reordered locals -/
theorem bB.locs {L' : List (Nat × Value)} (h : L'.map (fun q => lo L q.1) = L'.map (fun q => some q.2)) (kk : bB g l M d Q pc L' st μ k n) : bB g l M d Q pc L st μ k n := by
  intro p e R s m args below meth c H locs cells slots Z ls F hz h1 h2 hS hP hl
  refine kk p e R s m args below meth c H locs cells slots Z ls F hz h1 h2 hS hP ⟨hl.1, hl.2.1, fun q hq => ?_⟩
  have h3 : lo L q.1 = some q.2 := by
    obtain ⟨j, hj⟩ := List.getElem?_of_mem hq
    have h4 : (L'.map (fun q => lo L q.1))[j]? = (L'.map (fun q => some q.2))[j]? := by rw [h]
    rw [List.getElem?_map, List.getElem?_map, hj] at h4
    exact Option.some.inj h4
  exact lo_has hl h3
theorem bB.bud {k' n' : Nat} (h1 : k' ≤ k) (h2 : n' ≤ n) (kk : bB g l M d Q pc L st μ k' n') : bB g l M d Q pc L st μ k n :=
  fun p e R s m args below meth c H locs cells slots Z ls F hz q1 q2 hS hP hl => kk p e R s m args below meth c H locs cells slots Z ls F hz (by omega) (by omega) hS hP hl
theorem bB.post {Q' : Outcome → Mem → Nat → Nat → Prop} (h : ∀ o μ' k' n', Q' o μ' k' n' → Q o μ' k' n') (kk : bB g l M d Q' pc L st μ k n) : bB g l M d Q pc L st μ k n :=
  fun p e R s m args below meth c H locs cells slots Z ls F hz q1 q2 hS hP hl => kk p e R s m args below meth c H locs cells slots Z ls F (fun t o μ' k' n' L' a1 a2 a3 a4 => hz t o μ' k' n' L' a1 a2 a3 (h _ _ _ _ a4)) q1 q2 hS hP hl

theorem b_iconst {i : Int} {v : Int32} (hd : decode M.2.1 pc = .ok (.iconst i, 1)) (hv : Int32.ofInt i = v) (kk : bB g l M d Q (pc + 1) L (.int v :: st) μ k n) : bB g l M d Q pc L (st) μ k n :=
  fun p ee R s m args below meth c H locs cells slots Z ls F hz h1 h2 hS hP hl => lv_iconst F.1 F.2.1 hd hv (kk p ee R s m args below meth c H locs cells slots Z ls F hz h1 h2 hS hP hl)
theorem b_bipush {i : Int} {v : Int32} (hd : decode M.2.1 pc = .ok (.bipush i, 2)) (hv : (Int8.ofInt i).toInt32 = v) (kk : bB g l M d Q (pc + 2) L (.int v :: st) μ k n) : bB g l M d Q pc L (st) μ k n :=
  fun p ee R s m args below meth c H locs cells slots Z ls F hz h1 h2 hS hP hl => lv_bipush F.1 F.2.1 hd hv (kk p ee R s m args below meth c H locs cells slots Z ls F hz h1 h2 hS hP hl)
theorem b_sipush {i : Int} {v : Int32} (hd : decode M.2.1 pc = .ok (.sipush i, 3)) (hv : (Int16.ofInt i).toInt32 = v) (kk : bB g l M d Q (pc + 3) L (.int v :: st) μ k n) : bB g l M d Q pc L (st) μ k n :=
  fun p ee R s m args below meth c H locs cells slots Z ls F hz h1 h2 hS hP hl => lv_sipush F.1 F.2.1 hd hv (kk p ee R s m args below meth c H locs cells slots Z ls F hz h1 h2 hS hP hl)
theorem b_lconst {i : Fin 2} {v : Int64} (hd : decode M.2.1 pc = .ok (.lconst i, 1)) (hv : Int64.ofNat (i : Nat) = v) (kk : bB g l M d Q (pc + 1) L (.long v :: st) μ k n) : bB g l M d Q pc L (st) μ k n :=
  fun p ee R s m args below meth c H locs cells slots Z ls F hz h1 h2 hS hP hl => lv_lconst F.1 F.2.1 hd hv (kk p ee R s m args below meth c H locs cells slots Z ls F hz h1 h2 hS hP hl)
theorem b_null  (hd : decode M.2.1 pc = .ok (.aconst_null, 1)) (kk : bB g l M d Q (pc + 1) L (.null :: st) μ k n) : bB g l M d Q pc L (st) μ k n :=
  fun p ee R s m args below meth c H locs cells slots Z ls F hz h1 h2 hS hP hl => lv_null F.1 F.2.1 hd (kk p ee R s m args below meth c H locs cells slots Z ls F hz h1 h2 hS hP hl)
theorem b_ldc {i : Nat} {v : Int32} (hd : decode M.2.1 pc = .ok (.ldc i, 2)) (hc : Cond.constant M.1.cls i v ∈ lw_all) (kk : bB g l M d Q (pc + 2) L (.int v :: st) μ k n) : bB g l M d Q pc L (st) μ k n :=
  fun p ee R s m args below meth c H locs cells slots Z ls F hz h1 h2 hS hP hl => lv_ldc F.1 F.2.1 F.2.2.2.2.2.1 (F.2.2.2.2.2.2.1 _ hc) hd (kk p ee R s m args below meth c H locs cells slots Z ls F hz h1 h2 hS hP hl)
theorem b_ldc2 {i : Nat} {v : Int64} (hd : decode M.2.1 pc = .ok (.ldc2_w i, 3)) (hc : Cond.constantLong M.1.cls i v ∈ lw_all) (kk : bB g l M d Q (pc + 3) L (.long v :: st) μ k n) : bB g l M d Q pc L (st) μ k n :=
  fun p ee R s m args below meth c H locs cells slots Z ls F hz h1 h2 hS hP hl => lv_ldc2 F.1 F.2.1 F.2.2.2.2.2.1 (F.2.2.2.2.2.2.1 _ hc) hd (kk p ee R s m args below meth c H locs cells slots Z ls F hz h1 h2 hS hP hl)
theorem b_iload_n {j : Fin 4} {x : Int32} (hd : decode M.2.1 pc = .ok (.iload_n j, 1)) (e : lo L (j : Nat) = some (.int x)) (kk : bB g l M d Q (pc + 1) L (.int x :: st) μ k n) : bB g l M d Q pc L (st) μ k n :=
  fun p ee R s m args below meth c H locs cells slots Z ls F hz h1 h2 hS hP hl => lv_iload_n F.1 F.2.1 hd rfl (lo_has hl e) (kk p ee R s m args below meth c H locs cells slots Z ls F hz h1 h2 hS hP hl)
theorem b_iload {j : Nat} {x : Int32} (hd : decode M.2.1 pc = .ok (.iload j, 2)) (e : lo L j = some (.int x)) (kk : bB g l M d Q (pc + 2) L (.int x :: st) μ k n) : bB g l M d Q pc L (st) μ k n :=
  fun p ee R s m args below meth c H locs cells slots Z ls F hz h1 h2 hS hP hl => lv_iload F.1 F.2.1 hd (lo_has hl e) (kk p ee R s m args below meth c H locs cells slots Z ls F hz h1 h2 hS hP hl)
theorem b_lload_n {j : Fin 4} {x : Int64} (hd : decode M.2.1 pc = .ok (.lload_n j, 1)) (e : lo L (j : Nat) = some (.long x)) (kk : bB g l M d Q (pc + 1) L (.long x :: st) μ k n) : bB g l M d Q pc L (st) μ k n :=
  fun p ee R s m args below meth c H locs cells slots Z ls F hz h1 h2 hS hP hl => lv_lload_n F.1 F.2.1 hd rfl (lo_has hl e) (kk p ee R s m args below meth c H locs cells slots Z ls F hz h1 h2 hS hP hl)
theorem b_lload {j : Nat} {x : Int64} (hd : decode M.2.1 pc = .ok (.lload j, 2)) (e : lo L j = some (.long x)) (kk : bB g l M d Q (pc + 2) L (.long x :: st) μ k n) : bB g l M d Q pc L (st) μ k n :=
  fun p ee R s m args below meth c H locs cells slots Z ls F hz h1 h2 hS hP hl => lv_lload F.1 F.2.1 hd (lo_has hl e) (kk p ee R s m args below meth c H locs cells slots Z ls F hz h1 h2 hS hP hl)
theorem b_aload_n {j : Fin 4} {x : Nat} (hd : decode M.2.1 pc = .ok (.aload_n j, 1)) (e : lo L (j : Nat) = some (.ref x)) (kk : bB g l M d Q (pc + 1) L (.ref x :: st) μ k n) : bB g l M d Q pc L (st) μ k n :=
  fun p ee R s m args below meth c H locs cells slots Z ls F hz h1 h2 hS hP hl => lv_aload_n F.1 F.2.1 hd rfl (lo_has hl e) (kk p ee R s m args below meth c H locs cells slots Z ls F hz h1 h2 hS hP hl)
theorem b_aload {j : Nat} {x : Nat} (hd : decode M.2.1 pc = .ok (.aload j, 2)) (e : lo L j = some (.ref x)) (kk : bB g l M d Q (pc + 2) L (.ref x :: st) μ k n) : bB g l M d Q pc L (st) μ k n :=
  fun p ee R s m args below meth c H locs cells slots Z ls F hz h1 h2 hS hP hl => lv_aload F.1 F.2.1 hd (lo_has hl e) (kk p ee R s m args below meth c H locs cells slots Z ls F hz h1 h2 hS hP hl)
theorem b_aload_nN {j : Fin 4} (hd : decode M.2.1 pc = .ok (.aload_n j, 1)) (e : lo L (j : Nat) = some .null) (kk : bB g l M d Q (pc + 1) L (.null :: st) μ k n) : bB g l M d Q pc L (st) μ k n :=
  fun p ee R s m args below meth c H locs cells slots Z ls F hz h1 h2 hS hP hl => lv_aload_nN F.1 F.2.1 hd rfl (lo_has hl e) (kk p ee R s m args below meth c H locs cells slots Z ls F hz h1 h2 hS hP hl)
theorem b_aloadN {j : Nat} (hd : decode M.2.1 pc = .ok (.aload j, 2)) (e : lo L j = some .null) (kk : bB g l M d Q (pc + 2) L (.null :: st) μ k n) : bB g l M d Q pc L (st) μ k n :=
  fun p ee R s m args below meth c H locs cells slots Z ls F hz h1 h2 hS hP hl => lv_aloadN F.1 F.2.1 hd (lo_has hl e) (kk p ee R s m args below meth c H locs cells slots Z ls F hz h1 h2 hS hP hl)
theorem b_istore_n {j : Fin 4} {x : Int32} (hd : decode M.2.1 pc = .ok (.istore_n j, 1)) (hn : (j : Nat) < M.2.2.1) (kk : bB g l M d Q (pc + 1) (lset L (j : Nat) (.int x)) st μ k n) : bB g l M d Q pc L (.int x :: st) μ k n :=
  fun p ee R s m args below meth c H locs cells slots Z ls F hz h1 h2 hS hP hl => lv_istore_n F.1 F.2.1 hd rfl hl hn rfl (fun ls hl => kk p ee R s m args below meth c H locs cells slots Z ls F hz h1 h2 hS hP hl)
theorem b_istore {j : Nat} {x : Int32} (hd : decode M.2.1 pc = .ok (.istore j, 2)) (hn : j < M.2.2.1) (kk : bB g l M d Q (pc + 2) (lset L j (.int x)) st μ k n) : bB g l M d Q pc L (.int x :: st) μ k n :=
  fun p ee R s m args below meth c H locs cells slots Z ls F hz h1 h2 hS hP hl => lv_istore F.1 F.2.1 hd hl hn rfl (fun ls hl => kk p ee R s m args below meth c H locs cells slots Z ls F hz h1 h2 hS hP hl)
theorem b_astore_n {j : Fin 4} {x : Nat} (hd : decode M.2.1 pc = .ok (.astore_n j, 1)) (hn : (j : Nat) < M.2.2.1) (kk : bB g l M d Q (pc + 1) (lset L (j : Nat) (.ref x)) st μ k n) : bB g l M d Q pc L (.ref x :: st) μ k n :=
  fun p ee R s m args below meth c H locs cells slots Z ls F hz h1 h2 hS hP hl => lv_astore_n F.1 F.2.1 hd rfl hl hn rfl (fun ls hl => kk p ee R s m args below meth c H locs cells slots Z ls F hz h1 h2 hS hP hl)
theorem b_astore {j : Nat} {x : Nat} (hd : decode M.2.1 pc = .ok (.astore j, 2)) (hn : j < M.2.2.1) (kk : bB g l M d Q (pc + 2) (lset L j (.ref x)) st μ k n) : bB g l M d Q pc L (.ref x :: st) μ k n :=
  fun p ee R s m args below meth c H locs cells slots Z ls F hz h1 h2 hS hP hl => lv_astore F.1 F.2.1 hd hl hn rfl (fun ls hl => kk p ee R s m args below meth c H locs cells slots Z ls F hz h1 h2 hS hP hl)
theorem b_lstore_n {j : Fin 4} {x : Int64} (hd : decode M.2.1 pc = .ok (.lstore_n j, 1)) (hn : (j : Nat) + 1 < M.2.2.1) (kk : bB g l M d Q (pc + 1) (lset2 L (j : Nat) (.long x)) st μ k n) : bB g l M d Q pc L (.long x :: st) μ k n :=
  fun p ee R s m args below meth c H locs cells slots Z ls F hz h1 h2 hS hP hl => lv_lstore_n F.1 F.2.1 hd rfl hl hn rfl (fun ls hl => kk p ee R s m args below meth c H locs cells slots Z ls F hz h1 h2 hS hP hl)
theorem b_lstore {j : Nat} {x : Int64} (hd : decode M.2.1 pc = .ok (.lstore j, 2)) (hn : j + 1 < M.2.2.1) (kk : bB g l M d Q (pc + 2) (lset2 L j (.long x)) st μ k n) : bB g l M d Q pc L (.long x :: st) μ k n :=
  fun p ee R s m args below meth c H locs cells slots Z ls F hz h1 h2 hS hP hl => lv_lstore F.1 F.2.1 hd hl hn rfl (fun ls hl => kk p ee R s m args below meth c H locs cells slots Z ls F hz h1 h2 hS hP hl)
theorem b_astore_nN {j : Fin 4} (hd : decode M.2.1 pc = .ok (.astore_n j, 1)) (hn : (j : Nat) < M.2.2.1) (kk : bB g l M d Q (pc + 1) (lset L (j : Nat) .null) st μ k n) : bB g l M d Q pc L (.null :: st) μ k n :=
  fun p ee R s m args below meth c H locs cells slots Z ls F hz h1 h2 hS hP hl => lv_astore_nN F.1 F.2.1 hd rfl hl hn rfl (fun ls hl => kk p ee R s m args below meth c H locs cells slots Z ls F hz h1 h2 hS hP hl)
theorem b_astoreN {j : Nat} (hd : decode M.2.1 pc = .ok (.astore j, 2)) (hn : j < M.2.2.1) (kk : bB g l M d Q (pc + 2) (lset L j .null) st μ k n) : bB g l M d Q pc L (.null :: st) μ k n :=
  fun p ee R s m args below meth c H locs cells slots Z ls F hz h1 h2 hS hP hl => lv_astoreN F.1 F.2.1 hd hl hn rfl (fun ls hl => kk p ee R s m args below meth c H locs cells slots Z ls F hz h1 h2 hS hP hl)
theorem lo_idx {i : Nat} {v : Value} : ∀ {L : List (Nat × Value)}, lo L i = some v → ∃ q : Nat, L[q]? = some (i, v) := fun h => List.getElem?_of_mem (lo_mem h)
theorem b_iinc {j : Nat} {i : Int} {x v : Int32} (hd : decode M.2.1 pc = .ok (.iinc j i, 3)) (e : lo L j = some (.int x)) (hv : x + Int32.ofInt i = v) (hn : j < M.2.2.1) (kk : bB g l M d Q (pc + 3) (lset L j (.int v)) st μ k n) : bB g l M d Q pc L st μ k n := by
  intro p e9 R s m args below meth c H locs cells slots Z ls F hz h1 h2 hS hP hl
  obtain ⟨q, hq⟩ := lo_idx e
  exact lv_iinc F.1 F.2.1 hd hl hq hv hn rfl (fun ls hl => kk p e9 R s m args below meth c H locs cells slots Z ls F hz h1 h2 hS hP hl)
theorem b_iadd {x y : Int32} (hd : decode M.2.1 pc = .ok (.iadd, 1)) (kk : bB g l M d Q (pc + 1) L (.int (x + y) :: st) μ k n) : bB g l M d Q pc L (.int y :: .int x :: st) μ k n :=
  fun p ee R s m args below meth c H locs cells slots Z ls F hz h1 h2 hS hP hl => lv_iadd F.1 F.2.1 hd (kk p ee R s m args below meth c H locs cells slots Z ls F hz h1 h2 hS hP hl)
theorem b_isub {x y : Int32} (hd : decode M.2.1 pc = .ok (.isub, 1)) (kk : bB g l M d Q (pc + 1) L (.int (x - y) :: st) μ k n) : bB g l M d Q pc L (.int y :: .int x :: st) μ k n :=
  fun p ee R s m args below meth c H locs cells slots Z ls F hz h1 h2 hS hP hl => lv_isub F.1 F.2.1 hd (kk p ee R s m args below meth c H locs cells slots Z ls F hz h1 h2 hS hP hl)
theorem b_imul {x y : Int32} (hd : decode M.2.1 pc = .ok (.imul, 1)) (kk : bB g l M d Q (pc + 1) L (.int (x * y) :: st) μ k n) : bB g l M d Q pc L (.int y :: .int x :: st) μ k n :=
  fun p ee R s m args below meth c H locs cells slots Z ls F hz h1 h2 hS hP hl => lv_imul F.1 F.2.1 hd (kk p ee R s m args below meth c H locs cells slots Z ls F hz h1 h2 hS hP hl)
theorem b_iand {x y : Int32} (hd : decode M.2.1 pc = .ok (.iand, 1)) (kk : bB g l M d Q (pc + 1) L (.int (x &&& y) :: st) μ k n) : bB g l M d Q pc L (.int y :: .int x :: st) μ k n :=
  fun p ee R s m args below meth c H locs cells slots Z ls F hz h1 h2 hS hP hl => lv_iand F.1 F.2.1 hd (kk p ee R s m args below meth c H locs cells slots Z ls F hz h1 h2 hS hP hl)
theorem b_ladd {x y : Int64} (hd : decode M.2.1 pc = .ok (.ladd, 1)) (kk : bB g l M d Q (pc + 1) L (.long (x + y) :: st) μ k n) : bB g l M d Q pc L (.long y :: .long x :: st) μ k n :=
  fun p ee R s m args below meth c H locs cells slots Z ls F hz h1 h2 hS hP hl => lv_ladd F.1 F.2.1 hd (kk p ee R s m args below meth c H locs cells slots Z ls F hz h1 h2 hS hP hl)
theorem b_lmul {x y : Int64} (hd : decode M.2.1 pc = .ok (.lmul, 1)) (kk : bB g l M d Q (pc + 1) L (.long (x * y) :: st) μ k n) : bB g l M d Q pc L (.long y :: .long x :: st) μ k n :=
  fun p ee R s m args below meth c H locs cells slots Z ls F hz h1 h2 hS hP hl => lv_lmul F.1 F.2.1 hd (kk p ee R s m args below meth c H locs cells slots Z ls F hz h1 h2 hS hP hl)
theorem b_land {x y : Int64} (hd : decode M.2.1 pc = .ok (.land, 1)) (kk : bB g l M d Q (pc + 1) L (.long (x &&& y) :: st) μ k n) : bB g l M d Q pc L (.long y :: .long x :: st) μ k n :=
  fun p ee R s m args below meth c H locs cells slots Z ls F hz h1 h2 hS hP hl => lv_land F.1 F.2.1 hd (kk p ee R s m args below meth c H locs cells slots Z ls F hz h1 h2 hS hP hl)
theorem b_lor {x y : Int64} (hd : decode M.2.1 pc = .ok (.lor, 1)) (kk : bB g l M d Q (pc + 1) L (.long (x ||| y) :: st) μ k n) : bB g l M d Q pc L (.long y :: .long x :: st) μ k n :=
  fun p ee R s m args below meth c H locs cells slots Z ls F hz h1 h2 hS hP hl => lv_lor F.1 F.2.1 hd (kk p ee R s m args below meth c H locs cells slots Z ls F hz h1 h2 hS hP hl)
theorem b_iushr {x y v : Int32} (hd : decode M.2.1 pc = .ok (.iushr, 1)) (hv : (x.toUInt32 >>> (y.toUInt32 &&& Int32.toUInt32 31)).toInt32 = v) (kk : bB g l M d Q (pc + 1) L (.int v :: st) μ k n) : bB g l M d Q pc L (.int y :: .int x :: st) μ k n :=
  fun p ee R s m args below meth c H locs cells slots Z ls F hz h1 h2 hS hP hl => lv_iushr F.1 F.2.1 hd hv (kk p ee R s m args below meth c H locs cells slots Z ls F hz h1 h2 hS hP hl)
theorem b_i2l {x : Int32} {v : Int64} (hd : decode M.2.1 pc = .ok (.i2l, 1)) (hv : x.toInt64 = v) (kk : bB g l M d Q (pc + 1) L (.long v :: st) μ k n) : bB g l M d Q pc L (.int x :: st) μ k n :=
  fun p ee R s m args below meth c H locs cells slots Z ls F hz h1 h2 hS hP hl => lv_i2l F.1 F.2.1 hd hv (kk p ee R s m args below meth c H locs cells slots Z ls F hz h1 h2 hS hP hl)
theorem b_l2i {x : Int64} {v : Int32} (hd : decode M.2.1 pc = .ok (.l2i, 1)) (hv : x.toInt32 = v) (kk : bB g l M d Q (pc + 1) L (.int v :: st) μ k n) : bB g l M d Q pc L (.long x :: st) μ k n :=
  fun p ee R s m args below meth c H locs cells slots Z ls F hz h1 h2 hS hP hl => lv_l2i F.1 F.2.1 hd hv (kk p ee R s m args below meth c H locs cells slots Z ls F hz h1 h2 hS hP hl)
theorem b_i2b {x v : Int32} (hd : decode M.2.1 pc = .ok (.i2b, 1)) (hv : x.toInt8.toInt32 = v) (kk : bB g l M d Q (pc + 1) L (.int v :: st) μ k n) : bB g l M d Q pc L (.int x :: st) μ k n :=
  fun p ee R s m args below meth c H locs cells slots Z ls F hz h1 h2 hS hP hl => lv_i2b F.1 F.2.1 hd hv (kk p ee R s m args below meth c H locs cells slots Z ls F hz h1 h2 hS hP hl)
theorem b_lshl {x v : Int64} {y : Int32} (hd : decode M.2.1 pc = .ok (.lshl, 1)) (hv : x <<< (y.toInt64 &&& 63) = v) (kk : bB g l M d Q (pc + 1) L (.long v :: st) μ k n) : bB g l M d Q pc L (.int y :: .long x :: st) μ k n :=
  fun p ee R s m args below meth c H locs cells slots Z ls F hz h1 h2 hS hP hl => lv_lshl F.1 F.2.1 hd hv (kk p ee R s m args below meth c H locs cells slots Z ls F hz h1 h2 hS hP hl)
theorem b_idiv {x y : Int32} (hd : decode M.2.1 pc = .ok (.idiv, 1)) (hne : ¬ y = 0) (kk : bB g l M d Q (pc + 1) L (.int (x / y) :: st) μ k n) : bB g l M d Q pc L (.int y :: .int x :: st) μ k n :=
  fun p ee R s m args below meth c H locs cells slots Z ls F hz h1 h2 hS hP hl => lv_idiv F.1 F.2.1 hd hne (kk p ee R s m args below meth c H locs cells slots Z ls F hz h1 h2 hS hP hl)
theorem b_lcmp {x y : Int64} (hd : decode M.2.1 pc = .ok (.lcmp, 1)) (kk : bB g l M d Q (pc + 1) L (.int (lg_cmp x y) :: st) μ k n) : bB g l M d Q pc L (.long y :: .long x :: st) μ k n :=
  fun p ee R s m args below meth c H locs cells slots Z ls F hz h1 h2 hS hP hl => W.lcmp F.1 F.2.1 hd (kk p ee R s m args below meth c H locs cells slots Z ls F hz h1 h2 hS hP hl)
theorem b_dup {va : Value} (hd : decode M.2.1 pc = .ok (.dup, 1)) (hc : va.category = 1) (kk : bB g l M d Q (pc + 1) L (va :: va :: st) μ k n) : bB g l M d Q pc L (va :: st) μ k n :=
  fun p ee R s m args below meth c H locs cells slots Z ls F hz h1 h2 hS hP hl => lv_dup F.1 F.2.1 hd hc (kk p ee R s m args below meth c H locs cells slots Z ls F hz h1 h2 hS hP hl)
theorem b_pop {va : Value} (hd : decode M.2.1 pc = .ok (.pop, 1)) (hc : va.category = 1) (kk : bB g l M d Q (pc + 1) L (st) μ k n) : bB g l M d Q pc L (va :: st) μ k n :=
  fun p ee R s m args below meth c H locs cells slots Z ls F hz h1 h2 hS hP hl => lv_pop F.1 F.2.1 hd hc (kk p ee R s m args below meth c H locs cells slots Z ls F hz h1 h2 hS hP hl)
theorem b_dup_x1 {va vb : Value} (hd : decode M.2.1 pc = .ok (.dup_x1, 1)) (hc : va.category = 1) (hc2 : vb.category = 1) (kk : bB g l M d Q (pc + 1) L (va :: vb :: va :: st) μ k n) : bB g l M d Q pc L (va :: vb :: st) μ k n :=
  fun p ee R s m args below meth c H locs cells slots Z ls F hz h1 h2 hS hP hl => lv_dup_x1 F.1 F.2.1 hd hc hc2 (kk p ee R s m args below meth c H locs cells slots Z ls F hz h1 h2 hS hP hl)
theorem b_dup2_11 {va vb : Value} (hd : decode M.2.1 pc = .ok (.dup2, 1)) (hc : va.category = 1) (hc2 : vb.category = 1) (kk : bB g l M d Q (pc + 1) L (va :: vb :: va :: vb :: st) μ k n) : bB g l M d Q pc L (va :: vb :: st) μ k n :=
  fun p ee R s m args below meth c H locs cells slots Z ls F hz h1 h2 hS hP hl => lv_dup2_11 F.1 F.2.1 hd hc hc2 (kk p ee R s m args below meth c H locs cells slots Z ls F hz h1 h2 hS hP hl)
theorem b_pop2_2 {va : Value} (hd : decode M.2.1 pc = .ok (.pop2, 1)) (hc : va.category = 2) (kk : bB g l M d Q (pc + 1) L (st) μ k n) : bB g l M d Q pc L (va :: st) μ k n :=
  fun p ee R s m args below meth c H locs cells slots Z ls F hz h1 h2 hS hP hl => lv_pop2_2 F.1 F.2.1 hd hc (kk p ee R s m args below meth c H locs cells slots Z ls F hz h1 h2 hS hP hl)
theorem b_goto {off : Int} {tgt : Nat} (hd : decode M.2.1 pc = .ok (.goto off, 3)) (ht : (pc : Int) + off = (tgt : Int)) (kk : bB g l M d Q tgt L st μ k n) : bB g l M d Q pc L st μ k n :=
  fun p ee R s m args below meth c H locs cells slots Z ls F hz h1 h2 hS hP hl => lv_goto F.1 F.2.1 hd ht (kk p ee R s m args below meth c H locs cells slots Z ls F hz h1 h2 hS hP hl)
theorem b_ifnull {x : Nat} {off : Int} (hd : decode M.2.1 pc = .ok (.ifnull off, 3)) (kk : bB g l M d Q (pc + 3) L st μ k n) : bB g l M d Q pc L (.ref x :: st) μ k n :=
  fun p ee R s m args below meth c H locs cells slots Z ls F hz h1 h2 hS hP hl => lv_ifnull F.1 F.2.1 hd (kk p ee R s m args below meth c H locs cells slots Z ls F hz h1 h2 hS hP hl)
theorem b_ifnullN {off : Int} {tgt : Nat} (hd : decode M.2.1 pc = .ok (.ifnull off, 3)) (ht : (pc : Int) + off = (tgt : Int)) (kk : bB g l M d Q tgt L st μ k n) : bB g l M d Q pc L (.null :: st) μ k n :=
  fun p ee R s m args below meth c H locs cells slots Z ls F hz h1 h2 hS hP hl => lv_ifnullN F.1 F.2.1 hd ht (kk p ee R s m args below meth c H locs cells slots Z ls F hz h1 h2 hS hP hl)
theorem b_ifnonnull {x : Nat} {off : Int} {tgt : Nat} (hd : decode M.2.1 pc = .ok (.ifnonnull off, 3)) (ht : (pc : Int) + off = (tgt : Int)) (kk : bB g l M d Q tgt L st μ k n) : bB g l M d Q pc L (.ref x :: st) μ k n :=
  fun p ee R s m args below meth c H locs cells slots Z ls F hz h1 h2 hS hP hl => lv_ifnonnull F.1 F.2.1 hd ht (kk p ee R s m args below meth c H locs cells slots Z ls F hz h1 h2 hS hP hl)
theorem b_ifnonnullN {off : Int} (hd : decode M.2.1 pc = .ok (.ifnonnull off, 3)) (kk : bB g l M d Q (pc + 3) L st μ k n) : bB g l M d Q pc L (.null :: st) μ k n :=
  fun p ee R s m args below meth c H locs cells slots Z ls F hz h1 h2 hS hP hl => lv_ifnonnullN F.1 F.2.1 hd (kk p ee R s m args below meth c H locs cells slots Z ls F hz h1 h2 hS hP hl)
theorem b_icmp_eq {x y : Int32} {off : Int} {tgt : Nat} (hd : decode M.2.1 pc = .ok (.if_icmp .eq off, 3)) (ht : (pc : Int) + off = (tgt : Int)) (kt : x = y → bB g l M d Q tgt L st μ k n) (kf : ¬ x = y → bB g l M d Q (pc + 3) L st μ k n) : bB g l M d Q pc L (.int y :: .int x :: st) μ k n :=
  fun p ee R s m args below meth c H locs cells slots Z ls F hz h1 h2 hS hP hl => lv_icmp_eq F.1 F.2.1 hd ht (fun q => kt q p ee R s m args below meth c H locs cells slots Z ls F hz h1 h2 hS hP hl) (fun q => kf q p ee R s m args below meth c H locs cells slots Z ls F hz h1 h2 hS hP hl)
theorem b_if_eq {x : Int32} {off : Int} {tgt : Nat} (hd : decode M.2.1 pc = .ok (.ifCond .eq off, 3)) (ht : (pc : Int) + off = (tgt : Int)) (kt : x = 0 → bB g l M d Q tgt L st μ k n) (kf : ¬ x = 0 → bB g l M d Q (pc + 3) L st μ k n) : bB g l M d Q pc L (.int x :: st) μ k n :=
  fun p ee R s m args below meth c H locs cells slots Z ls F hz h1 h2 hS hP hl => lv_if_eq F.1 F.2.1 hd ht (fun q => kt q p ee R s m args below meth c H locs cells slots Z ls F hz h1 h2 hS hP hl) (fun q => kf q p ee R s m args below meth c H locs cells slots Z ls F hz h1 h2 hS hP hl)
theorem b_icmp_ne {x y : Int32} {off : Int} {tgt : Nat} (hd : decode M.2.1 pc = .ok (.if_icmp .ne off, 3)) (ht : (pc : Int) + off = (tgt : Int)) (kt : ¬ x = y → bB g l M d Q tgt L st μ k n) (kf : x = y → bB g l M d Q (pc + 3) L st μ k n) : bB g l M d Q pc L (.int y :: .int x :: st) μ k n :=
  fun p ee R s m args below meth c H locs cells slots Z ls F hz h1 h2 hS hP hl => lv_icmp_ne F.1 F.2.1 hd ht (fun q => kt q p ee R s m args below meth c H locs cells slots Z ls F hz h1 h2 hS hP hl) (fun q => kf q p ee R s m args below meth c H locs cells slots Z ls F hz h1 h2 hS hP hl)
theorem b_if_ne {x : Int32} {off : Int} {tgt : Nat} (hd : decode M.2.1 pc = .ok (.ifCond .ne off, 3)) (ht : (pc : Int) + off = (tgt : Int)) (kt : ¬ x = 0 → bB g l M d Q tgt L st μ k n) (kf : x = 0 → bB g l M d Q (pc + 3) L st μ k n) : bB g l M d Q pc L (.int x :: st) μ k n :=
  fun p ee R s m args below meth c H locs cells slots Z ls F hz h1 h2 hS hP hl => lv_if_ne F.1 F.2.1 hd ht (fun q => kt q p ee R s m args below meth c H locs cells slots Z ls F hz h1 h2 hS hP hl) (fun q => kf q p ee R s m args below meth c H locs cells slots Z ls F hz h1 h2 hS hP hl)
theorem b_icmp_lt {x y : Int32} {off : Int} {tgt : Nat} (hd : decode M.2.1 pc = .ok (.if_icmp .lt off, 3)) (ht : (pc : Int) + off = (tgt : Int)) (kt : x < y → bB g l M d Q tgt L st μ k n) (kf : ¬ x < y → bB g l M d Q (pc + 3) L st μ k n) : bB g l M d Q pc L (.int y :: .int x :: st) μ k n :=
  fun p ee R s m args below meth c H locs cells slots Z ls F hz h1 h2 hS hP hl => lv_icmp_lt F.1 F.2.1 hd ht (fun q => kt q p ee R s m args below meth c H locs cells slots Z ls F hz h1 h2 hS hP hl) (fun q => kf q p ee R s m args below meth c H locs cells slots Z ls F hz h1 h2 hS hP hl)
theorem b_if_lt {x : Int32} {off : Int} {tgt : Nat} (hd : decode M.2.1 pc = .ok (.ifCond .lt off, 3)) (ht : (pc : Int) + off = (tgt : Int)) (kt : x < 0 → bB g l M d Q tgt L st μ k n) (kf : ¬ x < 0 → bB g l M d Q (pc + 3) L st μ k n) : bB g l M d Q pc L (.int x :: st) μ k n :=
  fun p ee R s m args below meth c H locs cells slots Z ls F hz h1 h2 hS hP hl => lv_if_lt F.1 F.2.1 hd ht (fun q => kt q p ee R s m args below meth c H locs cells slots Z ls F hz h1 h2 hS hP hl) (fun q => kf q p ee R s m args below meth c H locs cells slots Z ls F hz h1 h2 hS hP hl)
theorem b_icmp_ge {x y : Int32} {off : Int} {tgt : Nat} (hd : decode M.2.1 pc = .ok (.if_icmp .ge off, 3)) (ht : (pc : Int) + off = (tgt : Int)) (kt : y ≤ x → bB g l M d Q tgt L st μ k n) (kf : ¬ y ≤ x → bB g l M d Q (pc + 3) L st μ k n) : bB g l M d Q pc L (.int y :: .int x :: st) μ k n :=
  fun p ee R s m args below meth c H locs cells slots Z ls F hz h1 h2 hS hP hl => lv_icmp_ge F.1 F.2.1 hd ht (fun q => kt q p ee R s m args below meth c H locs cells slots Z ls F hz h1 h2 hS hP hl) (fun q => kf q p ee R s m args below meth c H locs cells slots Z ls F hz h1 h2 hS hP hl)
theorem b_if_ge {x : Int32} {off : Int} {tgt : Nat} (hd : decode M.2.1 pc = .ok (.ifCond .ge off, 3)) (ht : (pc : Int) + off = (tgt : Int)) (kt : 0 ≤ x → bB g l M d Q tgt L st μ k n) (kf : ¬ 0 ≤ x → bB g l M d Q (pc + 3) L st μ k n) : bB g l M d Q pc L (.int x :: st) μ k n :=
  fun p ee R s m args below meth c H locs cells slots Z ls F hz h1 h2 hS hP hl => lv_if_ge F.1 F.2.1 hd ht (fun q => kt q p ee R s m args below meth c H locs cells slots Z ls F hz h1 h2 hS hP hl) (fun q => kf q p ee R s m args below meth c H locs cells slots Z ls F hz h1 h2 hS hP hl)
theorem b_icmp_gt {x y : Int32} {off : Int} {tgt : Nat} (hd : decode M.2.1 pc = .ok (.if_icmp .gt off, 3)) (ht : (pc : Int) + off = (tgt : Int)) (kt : y < x → bB g l M d Q tgt L st μ k n) (kf : ¬ y < x → bB g l M d Q (pc + 3) L st μ k n) : bB g l M d Q pc L (.int y :: .int x :: st) μ k n :=
  fun p ee R s m args below meth c H locs cells slots Z ls F hz h1 h2 hS hP hl => lv_icmp_gt F.1 F.2.1 hd ht (fun q => kt q p ee R s m args below meth c H locs cells slots Z ls F hz h1 h2 hS hP hl) (fun q => kf q p ee R s m args below meth c H locs cells slots Z ls F hz h1 h2 hS hP hl)
theorem b_if_gt {x : Int32} {off : Int} {tgt : Nat} (hd : decode M.2.1 pc = .ok (.ifCond .gt off, 3)) (ht : (pc : Int) + off = (tgt : Int)) (kt : 0 < x → bB g l M d Q tgt L st μ k n) (kf : ¬ 0 < x → bB g l M d Q (pc + 3) L st μ k n) : bB g l M d Q pc L (.int x :: st) μ k n :=
  fun p ee R s m args below meth c H locs cells slots Z ls F hz h1 h2 hS hP hl => lv_if_gt F.1 F.2.1 hd ht (fun q => kt q p ee R s m args below meth c H locs cells slots Z ls F hz h1 h2 hS hP hl) (fun q => kf q p ee R s m args below meth c H locs cells slots Z ls F hz h1 h2 hS hP hl)
theorem b_icmp_le {x y : Int32} {off : Int} {tgt : Nat} (hd : decode M.2.1 pc = .ok (.if_icmp .le off, 3)) (ht : (pc : Int) + off = (tgt : Int)) (kt : x ≤ y → bB g l M d Q tgt L st μ k n) (kf : ¬ x ≤ y → bB g l M d Q (pc + 3) L st μ k n) : bB g l M d Q pc L (.int y :: .int x :: st) μ k n :=
  fun p ee R s m args below meth c H locs cells slots Z ls F hz h1 h2 hS hP hl => lv_icmp_le F.1 F.2.1 hd ht (fun q => kt q p ee R s m args below meth c H locs cells slots Z ls F hz h1 h2 hS hP hl) (fun q => kf q p ee R s m args below meth c H locs cells slots Z ls F hz h1 h2 hS hP hl)
theorem b_if_le {x : Int32} {off : Int} {tgt : Nat} (hd : decode M.2.1 pc = .ok (.ifCond .le off, 3)) (ht : (pc : Int) + off = (tgt : Int)) (kt : x ≤ 0 → bB g l M d Q tgt L st μ k n) (kf : ¬ x ≤ 0 → bB g l M d Q (pc + 3) L st μ k n) : bB g l M d Q pc L (.int x :: st) μ k n :=
  fun p ee R s m args below meth c H locs cells slots Z ls F hz h1 h2 hS hP hl => lv_if_le F.1 F.2.1 hd ht (fun q => kt q p ee R s m args below meth c H locs cells slots Z ls F hz h1 h2 hS hP hl) (fun q => kf q p ee R s m args below meth c H locs cells slots Z ls F hz h1 h2 hS hP hl)
theorem b_tableOut {dflt lo9 hi : Int} {offs : Array Int} {len : Nat} {x : Int32} {tgt : Nat} (hd : decode M.2.1 pc = .ok (.tableswitch dflt lo9 hi offs, len)) (h : x.toInt < lo9 ∨ hi < x.toInt) (ht : (pc : Int) + dflt = (tgt : Int)) (kk : bB g l M d Q tgt L st μ k n) : bB g l M d Q pc L (.int x :: st) μ k n :=
  fun p ee R s m args below meth c H locs cells slots Z ls F hz h1 h2 hS hP hl => lv_tableOut F.1 F.2.1 hd h ht (kk p ee R s m args below meth c H locs cells slots Z ls F hz h1 h2 hS hP hl)
theorem b_tableIn {dflt lo9 hi : Int} {offs : Array Int} {len : Nat} {x : Int32} {off : Int} {tgt : Nat} (hd : decode M.2.1 pc = .ok (.tableswitch dflt lo9 hi offs, len)) (q1 : ¬ x.toInt < lo9) (q2 : ¬ hi < x.toInt) (ho : offs[(x.toInt - lo9).toNat]? = some off) (ht : (pc : Int) + off = (tgt : Int)) (kk : bB g l M d Q tgt L st μ k n) : bB g l M d Q pc L (.int x :: st) μ k n :=
  fun p ee R s m args below meth c H locs cells slots Z ls F hz h1 h2 hS hP hl => lv_tableIn F.1 F.2.1 hd q1 q2 ho ht (kk p ee R s m args below meth c H locs cells slots Z ls F hz h1 h2 hS hP hl)
end RU
