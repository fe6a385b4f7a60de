/-! helpers for a sending -/
set_option maxRecDepth 100000
theorem nodup_repl {L1 X L2 Y : List Nat} (h : (L1 ++ (X ++ L2)).Nodup) (hy : Y.Nodup) (hd : ∀ y ∈ Y, y ∈ X ∨ (y ∉ L1 ∧ y ∉ L2)) : (L1 ++ (Y ++ L2)).Nodup := by
  rw [List.nodup_append, List.nodup_append] at h ⊢
  obtain ⟨h1, ⟨h2, h3, h4⟩, h5⟩ := h
  refine ⟨h1, ⟨hy, h3, fun a ha b hb e => ?_⟩, fun a ha b hb e => ?_⟩
  · rcases hd a ha with h | h
    · exact h4 a h b hb e
    · exact h.2 (e ▸ hb)
  · rcases List.mem_append.mp hb with hb | hb
    · rcases hd b hb with h | h
      · exact h5 a ha b (List.mem_append_left _ h) e
      · exact h.1 (e ▸ ha)
    · exact h5 a ha b (List.mem_append_right _ hb) e
theorem dnk_left {X : Type} {f : X → Int32 → Option Int64} {l1 l2 : List (Int32 × Int32 × X)} {a m : Int} {x : Int32} (h1 : chn a m l1) (h2 : a ≤ x.toInt) (h3 : x.toInt ≤ m) : dnk f (l1 ++ l2) x = dnk f l1 x := by
  obtain ⟨c, hc, hf, -⟩ := h1.find h2 h3
  unfold dnk
  rw [List.find?_append, hf]
  rfl
theorem dnk_right {X : Type} {f : X → Int32 → Option Int64} {l1 l2 : List (Int32 × Int32 × X)} {a m : Int} {x : Int32} (h1 : chn a m l1) (h3 : m < x.toInt) : dnk f (l1 ++ l2) x = dnk f l2 x := by
  unfold dnk
  rw [List.find?_append, h1.nofind (Or.inr h3)]
  rfl
theorem dnk_one {X : Type} {f : X → Int32 → Option Int64} {c : Int32 × Int32 × X} {l2 : List (Int32 × Int32 × X)} {x : Int32} (h1 : c.1.toInt ≤ x.toInt) (h2 : x.toInt ≤ c.2.1.toInt) : dnk f (c :: l2) x = f c.2.2 x := by
  unfold dnk
  rw [List.find?_cons_of_pos (kin_iff.mpr ⟨h1, h2⟩)]
theorem dnk_skip {X : Type} {f : X → Int32 → Option Int64} {c : Int32 × Int32 × X} {l2 : List (Int32 × Int32 × X)} {x : Int32} (h2 : c.2.1.toInt < x.toInt) : dnk f (c :: l2) x = dnk f l2 x := by
  unfold dnk
  rw [List.find?_cons_of_neg (fun h => by have := kin_iff.mp h; omega)]
section SH
variable {h : Nat} {A B ts : List (Kid h)} {c : Kid h}
theorem gd_gl : ∀ (h : Nat) (t : PT h), gd h t → gl h t := by
  intro h
  induction h with
  | zero => intro t _; trivial
  | succ h ih =>
    intro t ht
    obtain ⟨⟨p, cp, cl⟩, o, ks, ls, c1, c2⟩ := t
    exact ⟨fun c hc => ht.2 c (List.dropLast_subset _ hc), fun c hc => ih c.2.2 (ht.2 c hc)⟩
theorem gls_send (hts : ts ≠ []) (h1 : gd h c.2.2 → ∀ c' ∈ ts, gd h c'.2.2) (h2 : gl h c.2.2 → gls ts) (hg : gls (A ++ c :: B)) : gls (A ++ (ts ++ B)) := by
  obtain ⟨g1, g2⟩ := hg
  have hA : ∀ c' ∈ A, gd h c'.2.2 := fun c' hc' => g1 c' (by
    rw [List.dropLast_append_of_ne_nil (by simp)]
    exact List.mem_append_left _ hc')
  by_cases hB : B = []
  · subst hB
    obtain ⟨q1, q2⟩ := h2 (g2 c (by simp))
    refine ⟨fun c' hc' => ?_, fun c' hc' => ?_⟩
    · rw [List.append_nil, List.dropLast_append_of_ne_nil hts] at hc'
      rcases List.mem_append.mp hc' with h | h
      · exact hA c' h
      · exact q1 c' h
    · rcases List.mem_append.mp hc' with h | h
      · exact gd_gl _ _ (hA c' h)
      · rw [List.append_nil] at h
        exact q2 c' h
  · have hc : gd h c.2.2 := g1 c (by
      rw [List.dropLast_append_of_ne_nil (by simp)]
      refine List.mem_append_right _ ?_
      cases B with
      | nil => exact absurd rfl hB
      | cons b t => simp)
    have q1 := h1 hc
    refine ⟨fun c' hc' => ?_, fun c' hc' => ?_⟩
    · rw [List.dropLast_append_of_ne_nil (by simp [hB]), List.dropLast_append_of_ne_nil hB] at hc'
      rcases List.mem_append.mp hc' with h | h
      · exact hA c' h
      · rcases List.mem_append.mp h with h | h
        · exact q1 c' h
        · refine g1 c' ?_
          rw [List.dropLast_append_of_ne_nil (by simp)]
          refine List.mem_append_right _ ?_
          cases B with
          | nil => exact absurd rfl hB
          | cons b t => exact List.mem_cons_of_mem _ h
    · rcases List.mem_append.mp hc' with h | h
      · exact gd_gl _ _ (hA c' h)
      · rcases List.mem_append.mp h with h | h
        · exact gd_gl _ _ (q1 c' h)
        · exact g2 c' (List.mem_append_right _ (List.mem_cons_of_mem _ h))
theorem kA_app : kA (A ++ B) = kA A ++ kA B := by simp [kA]
theorem kA_cons : kA (c :: B) = (adr h c.2.2, c.1) :: kA B := rfl
theorem kA_put {i : Nat} (hA : A.length = i) : putL (kA (A ++ c :: B)) i (kA ts) = kA (A ++ (ts ++ B)) := by
  unfold putL
  have hl : (kA A).length = i := by rw [kA_len]; exact hA
  rw [kA_app, kA_cons, kA_app, kA_app]
  congr 1
  · rw [List.take_append_of_le_length (by omega), ← hl, List.take_length]
  · congr 1
    rw [← hl, List.drop_append, List.drop_eq_nil_of_le (by omega)]
    simp
theorem wFp_mono {w : WS} {d0 d1 x : Nat} (h : wFp w d1 x) (hd : d0 ≤ d1) : wFp w d0 x := by
  rcases h with h | ⟨kd, j, c, hk, hj, e⟩
  · exact Or.inl h
  · exact Or.inr ⟨kd, j, c, hk, by omega, e⟩
theorem ownF_app {now : Int32} : ownF now h (A ++ B) = ownF now h A ++ ownF now h B := by unfold ownF; rw [List.flatMap_append]
theorem ownF_cons {now : Int32} : ownF now h (c :: B) = ownT now h c.2.2 ++ ownF now h B := rfl
theorem nR_ls {ls : List (Nat × Msg)} : nR ls = (ls.map (·.2)).countP isR := by
  unfold nR
  rw [List.countP_map]
  rfl
end SH
