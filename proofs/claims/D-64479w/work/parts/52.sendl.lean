/-! PURE: what a sending leaves -/
set_option maxRecDepth 100000
section SLW
variable {h : Nat} {lo hi : Int32} {A Bk ts : List (Kid h)} {c : Kid h} {ls sq gq : List (Nat × Msg)}
theorem send_law (hch : chn lo.toInt hi.toInt (A ++ c :: Bk)) (hwf : wfK (A ++ c :: Bk)) (hls : lsOk lo hi ls) (hcr : ∀ c' ∈ A ++ c :: Bk, hcR (ls.map (·.2)) c'.1 c'.2.1 + 24 * h ≤ 200) (hhr : hitsR (ls.map (·.2)) (A ++ c :: Bk) ≤ 1800)
    (hgq : gq.map (·.2) = goL c.1 c.2.1 (ls.map (·.2))) (hsq : sq.map (·.2) = stL c.1 c.2.1 (ls.map (·.2)))
    (r3 : 1 ≤ ts.length) (r4 : chn c.1.toInt c.2.1.toInt ts) (r6 : wfK ts) (r11 : ∀ x : Int32, c.1 ≤ x → x ≤ c.2.1 → dnk (den h) ts x = effs (gq.map (·.2)) x (den h c.2.2 x)) (r12 : ksum (fun c : Kid h => wt h c.2.2) ts ≤ wt h c.2.2 + puts gq) (r13 : gd h c.2.2 → ∀ c' ∈ ts, gd h c'.2.2) (r14 : gl h c.2.2 → gls ts) (r15 : ksum (fun c : Kid h => Xr h c.2.2) ts ≤ Xr h c.2.2 + ksum (incX h (c.1, c.2.1, c.2.2)) gq) :
    chn lo.toInt hi.toInt (A ++ (ts ++ Bk)) ∧ wfK (A ++ (ts ++ Bk)) ∧ lsOk lo hi sq ∧ ksum (fun c : Kid h => wt h c.2.2) (A ++ (ts ++ Bk)) + puts sq ≤ ksum (fun c : Kid h => wt h c.2.2) (A ++ c :: Bk) + puts ls ∧ (∀ c' ∈ A ++ (ts ++ Bk), hcR (sq.map (·.2)) c'.1 c'.2.1 + 24 * h ≤ 200) ∧ hitsR (sq.map (·.2)) (A ++ (ts ++ Bk)) ≤ 1800 ∧
    (∀ x : Int32, lo ≤ x → x ≤ hi → effs (sq.map (·.2)) x (dnk (den h) (A ++ (ts ++ Bk)) x) = effs (ls.map (·.2)) x (dnk (den h) (A ++ c :: Bk) x)) ∧
    (ksum (fun c : Kid h => Xr h c.2.2) (A ++ (ts ++ Bk)) + xs h (A ++ (ts ++ Bk)) (sq.map (·.2)) ≤ ksum (fun c : Kid h => Xr h c.2.2) (A ++ c :: Bk) + xs h (A ++ c :: Bk) (ls.map (·.2))) ∧
    ((∀ c' ∈ A ++ c :: Bk, gd h c'.2.2) → ∀ c' ∈ A ++ (ts ++ Bk), gd h c'.2.2) ∧ (gls (A ++ c :: Bk) → gls (A ++ (ts ++ Bk))) ∧ (A ++ c :: Bk).length ≤ (A ++ (ts ++ Bk)).length ∧
    hits (sq.map (·.2)) (A ++ (ts ++ Bk)) + hc (ls.map (·.2)) c.1 c.2.1 = hits (ls.map (·.2)) (A ++ c :: Bk) := by
  have hcm : c ∈ A ++ c :: Bk := by simp
  have hcw := hwf c hcm
  have hwA : wfK A := fun c' hc' => hwf c' (List.mem_append_left _ hc')
  have hwB : wfK Bk := fun c' hc' => hwf c' (List.mem_append_right _ (List.mem_cons_of_mem _ hc'))
  obtain ⟨m0, kA1, kc1, kc2, kB1⟩ := chn.app.mp hch
  have hoks : ∀ m ∈ ls.map (·.2), okM m ∧ lo ≤ m.2.1 ∧ m.2.2.1 ≤ hi := fun m hm => by
    obtain ⟨q, hq, rfl⟩ := List.mem_map.mp hm
    exact hls q hq
  have hoks1 : ∀ m ∈ ls.map (·.2), okM m := fun m hm => (hoks m hm).1
  have hoks2 : ∀ m ∈ ls.map (·.2), okM m ∧ lo.toInt ≤ m.2.1.toInt ∧ m.2.2.1.toInt ≤ hi.toInt := fun m hm => by
    have := hoks m hm
    rw [i_le, i_le] at this
    exact this
  have hmemk : ∀ c' ∈ A ++ (ts ++ Bk), (c' ∈ A ∨ c' ∈ Bk) ∨ c' ∈ ts := fun c' hc' => by
    rcases List.mem_append.mp hc' with h' | h'
    · exact Or.inl (Or.inl h')
    · rcases List.mem_append.mp h' with h' | h'
      · exact Or.inr h'
      · exact Or.inl (Or.inr h')
  have hsp := send_puts (lo := c.1) (hi := c.2.1) kc2 hoks1
  have hpls : puts ls = pM (ls.map (·.2)) := puts_ls
  have hpg' : puts gq = pM (goL c.1 c.2.1 (ls.map (·.2))) := by rw [puts_ls, hgq]
  have hps' : puts sq = pM (stL c.1 c.2.1 (ls.map (·.2))) := by rw [puts_ls, hsq]
  have hhs := hits_send hch r4 hoks1
  have hcrd := send_credit hch r4 hwA hcw hwB r6 hoks2
  have hicx : ksum (incX h (c.1, c.2.1, c.2.2)) gq = ic h c (goL c.1 c.2.1 (ls.map (·.2))) := by
    rw [← hgq]
    unfold ic
    rw [ksum_map]
    rfl
  rw [hicx] at r15
  refine ⟨?_, ?_, ?_, ?_, ?_, ?_, ?_, ?_, ?_, ?_, ?_, ?_⟩
  · refine chn.app.mpr ⟨m0, kA1, ?_⟩
    refine chn.app.mpr ⟨c.2.1.toInt, ?_, kB1⟩
    rw [← kc1]
    exact r4
  · intro c' hc'
    rcases hmemk c' hc' with (h' | h') | h'
    · exact hwA c' h'
    · exact hwB c' h'
    · exact r6 c' h'
  · intro q hq
    have : q.2 ∈ stL c.1 c.2.1 (ls.map (·.2)) := by rw [← hsq]; exact List.mem_map.mpr ⟨q, hq, rfl⟩
    unfold stL at this
    obtain ⟨m', hm', hm⟩ := List.mem_flatMap.mp this
    obtain ⟨-, -, q3, q4, q5, -⟩ := stP_mem (hoks1 m' hm') kc2 hm
    have := hoks m' hm'
    rw [i_le, i_le] at this
    refine ⟨q3, ?_, ?_⟩
    · rw [i_le]; omega
    · rw [i_le]; omega
  · rw [ksum_app, ksum_app, ksum_app, ksum_cons, hps', hpls]
    omega
  · intro c' hc'
    rw [hsq]
    rcases hmemk c' hc' with (h' | h') | h'
    · have h9 := kA1.mem c' h'
      rw [stL_hcR hoks1 kc2 h9.2.1 (Or.inl (by omega))]
      exact hcr c' (List.mem_append_left _ h')
    · have h9 := kB1.mem c' h'
      rw [stL_hcR hoks1 kc2 h9.2.1 (Or.inr (by omega))]
      exact hcr c' (List.mem_append_right _ (List.mem_cons_of_mem _ h'))
    · have h9 := r4.mem c' h'
      have h0 := stL_zero (ms := ls.map (·.2)) hoks1 kc2 (lo' := c'.1) (hi' := c'.2.1) (by omega) (by omega)
      have := hcR_le (ms := stL c.1 c.2.1 (ls.map (·.2))) (lo := c'.1) (hi := c'.2.1)
      have := hcr c hcm
      omega
  · rw [hsq]
    omega
  · intro x hx1 hx2
    rw [hsq]
    rw [i_le] at hx1 hx2
    by_cases ea : x.toInt ≤ m0
    · rw [stL_eff hoks1 kc2 (Or.inl (by omega)), dnk_left kA1 hx1 ea, dnk_left kA1 hx1 ea]
    · rw [dnk_right kA1 (by omega), dnk_right kA1 (by omega)]
      by_cases eb : x.toInt ≤ c.2.1.toInt
      · rw [stL_no hoks1 kc2 (by omega) eb, dnk_left r4 (by omega) eb, dnk_one (by omega) eb, r11 x (by rw [i_le]; omega) (by rw [i_le]; exact eb), hgq, goL_eff (by omega) eb]
      · rw [stL_eff hoks1 kc2 (Or.inr (by omega)), dnk_right r4 (by omega), dnk_skip (by omega)]
  · rw [hsq, ksum_app, ksum_app, ksum_app, ksum_cons]
    omega
  · intro hg c' hc'
    rcases hmemk c' hc' with (h' | h') | h'
    · exact hg c' (List.mem_append_left _ h')
    · exact hg c' (List.mem_append_right _ (List.mem_cons_of_mem _ h'))
    · exact r13 (hg c hcm) c' h'
  · exact gls_send (fun e => by rw [e] at r3; simp at r3) r13 r14
  · simp
    omega
  · rw [hsq]
    exact hhs.1
end SLW
/-- the numbers of a sending -/
theorem send_num {n n1 n2 nF n3 n4 n5 M t B c1 c1' c2 c2' cg cs cgF csF ψ1 ψ2 ψ3 W W4 P Pg' Ps X0 X' I0 N E PgA PgB Pgc Pgt XA XB Xc Xt S : Nat}
    (h1 : n + (17600 - 2 * cg) ≤ n1 + ψ1) (h2 : n1 + (17600 - 2 * cs) ≤ n2 + ψ2) (h3 : n2 + (17600 - 2 * cgF) + (17600 - 2 * csF) ≤ nF + (17600 - 2 * cg) + (17600 - 2 * cs) + 4 * N) (h4 : c2 ≤ c2' ∧ (c2' = c2 ∨ (c2 < S ∧ c2' + 2 ≤ 2 * S)) ∧ n3 + 2 * c2' = nF + 2 * c2) (h5 : S ≤ B + E)
    (h6 : n3 + (Pgt + Xt) + 112 * (t - 1) + W4 ≤ n4 + (Pgc + Xc) + (I0 + Pg') + W) (h7 : c1 ≤ c1' ∧ (c1' = c1 ∨ (c1 < M + (t - 1) ∧ c1' + 2 ≤ 2 * (M + (t - 1)))) ∧ n5 + 4 * c1' = n4 + 4 * c1) (h8 : X' + I0 + 4 * N + 4 * E ≤ X0) (h9 : Ps + Pg' = P) (ht : 1 ≤ t) :
    n + ((8 * (M + (t - 1)) - 4 * c1') + (4 * (B + E) - 2 * c2') + 104 * (max 4 (M + (t - 1)) - 4) + Ps + X' + ((PgA + (Pgt + PgB)) + (XA + (Xt + XB))) + ((17600 - 2 * cgF) + ((17600 - 2 * csF) + (ψ3 + W4)))) ≤ n5 + ((8 * M - 4 * c1) + (4 * B - 2 * c2) + 104 * (max 4 M - 4) + P + X0 + ((PgA + (Pgc + PgB)) + (XA + (Xc + XB))) + (ψ1 + (ψ2 + (ψ3 + W)))) := by
  omega
theorem send_pre {n n1 n2 nF n3 n4 M t B c1 c2 c2' cg cs cgF csF ψ1 ψ2 ψ3 W W4 P Pg' Ps X0 X' I0 N E PgA PgB Pgc Pgt XA XB Xc Xt S : Nat}
    (h1 : n + (17600 - 2 * cg) ≤ n1 + ψ1) (h2 : n1 + (17600 - 2 * cs) ≤ n2 + ψ2) (h3 : n2 + (17600 - 2 * cgF) + (17600 - 2 * csF) ≤ nF + (17600 - 2 * cg) + (17600 - 2 * cs) + 4 * N) (h4 : c2 ≤ c2' ∧ (c2' = c2 ∨ (c2 < S ∧ c2' + 2 ≤ 2 * S)) ∧ n3 + 2 * c2' = nF + 2 * c2) (h5 : S ≤ B + E)
    (h6 : n3 + (Pgt + Xt) + 112 * (t - 1) + W4 ≤ n4 + (Pgc + Xc) + (I0 + Pg') + W) (h8 : X' + I0 + 4 * N + 4 * E ≤ X0) (h9 : Ps + Pg' = P)
    (hn : (8 * M - 4 * c1) + (4 * B - 2 * c2) + 104 * (max 4 M - 4) + P + X0 + ((PgA + (Pgc + PgB)) + (XA + (Xc + XB))) + (ψ1 + (ψ2 + (ψ3 + W))) ≤ n) :
    8 * (M + (t - 1)) ≤ n4 + 4 * c1 := by
  omega
theorem kn_P {c1 c1' n4 n5 k4 k5 : Nat} (h : c1 ≤ c1') (h1 : n5 + 4 * c1' = n4 + 4 * c1) (h2 : 2 * k4 + c1 ≤ 2 * k5 + c1') (h3 : n4 ≤ 4 * k4) : n5 ≤ 4 * k5 := by omega
theorem cap_P {c1 c1' M : Nat} (h : c1 ≤ c1') (h2 : c1' = c1 ∨ (c1 < M ∧ c1' + 2 ≤ 2 * M)) (h3 : 4 ≤ c1) (h4 : c1 ≤ 20000) (h5 : M ≤ 5000) : 4 ≤ c1' ∧ c1' ≤ 20000 := by omega
theorem cap_L {c1 c1' M : Nat} (h : c1 ≤ c1') (h2 : c1' = c1 ∨ (c1 < M ∧ c1' + 2 ≤ 2 * M)) (h3 : 8 ≤ c1) (h4 : c1 ≤ 20000) (h5 : M ≤ 5000) : 8 ≤ c1' ∧ c1' ≤ 20000 := by omega
theorem len_320 {t a b c s p : Nat} (h1 : 8 * t ≤ a) (h2 : a ≤ b + c) (h3 : b ≤ s) (h4 : s + p ≤ 2560) (h5 : c ≤ p) : t ≤ 320 := by omega
theorem len_320' {t s p : Nat} (h1 : 8 * t ≤ s) (h4 : s + p ≤ 2560) : t ≤ 320 := by omega
theorem put_2 {X n4 k4 c1 : Nat} (h : 8 * X ≤ n4 + 4 * c1) (h2 : n4 ≤ 4 * k4) : 2 * X ≤ 2 * k4 + c1 := by omega
theorem add_640 {M t : Nat} (h1 : M ≤ 320) (h2 : t ≤ 320) : M + t ≤ 40000 ∧ M + (t - 1) ≤ 5000 := by omega
theorem len_sub {M t L : Nat} (h : L + 1 = M + t) (h1 : 1 ≤ t) : L = M + (t - 1) := by omega
