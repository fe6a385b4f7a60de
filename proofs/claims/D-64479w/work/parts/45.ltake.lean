/-! Leaf.take, Leaf.settle -/
set_option maxRecDepth 100000
section LTK
variable {g : Cx} {l : Launch}
theorem isPg.ext {α α' : AM} {p : Nat} (h : isPg α p) (he : ext α α') : isPg α' p := by
  rcases h with ⟨fs, h⟩ | ⟨fs, h⟩
  · exact Or.inl ⟨fs, he _ _ h⟩
  · exact Or.inr ⟨fs, he _ _ h⟩
theorem wput2 {w : WS} {kd j : Nat} {q q' : Nat × Nat} : wput (wput w kd j q) kd j q' = wput w kd j q' := by
  unfold wput
  congr 2
  funext kd' j'
  dsimp only
  by_cases e : kd' = kd ∧ j' = j
  · rw [if_pos e, if_pos e]
  · rw [if_neg e, if_neg e, if_neg e]
theorem wSm_put {α : AM} {w : WS} {kd j a c d0 : Nat} {ks : Nat → Prop} (h4 : (∃ c0, w.2.2 kd j = some (a, c0)) ∨ (w.2.2 kd j = none ∧ α a = none)) (hk : ks kd) (hd : d0 ≤ j) : wSm α w (wput w kd j (a, c)) ks d0 := by
  refine ⟨rfl, rfl, fun kd' j' q => ?_, fun kd' j' a' c' q => ?_, fun kd' j' a' c' q q0 => ?_⟩
  · rw [wput_n]
    rintro ⟨rfl, rfl⟩
    rcases q with q | q
    · exact q hk
    · omega
  · by_cases e : kd' = kd ∧ j' = j
    · obtain ⟨rfl, rfl⟩ := e
      rcases h4 with ⟨c0, h4⟩ | h4
      · rw [h4] at q
        cases q
        exact ⟨c, wput_s⟩
      · rw [h4.1] at q; cases q
    · exact ⟨c', by rw [wput_n e]; exact q⟩
  · by_cases e : kd' = kd ∧ j' = j
    · obtain ⟨rfl, rfl⟩ := e
      rw [wput_s] at q
      cases q
      rcases h4 with ⟨c0, h4⟩ | h4
      · rw [h4] at q0; cases q0
      · exact h4.2
    · rw [wput_n e] at q
      rw [q] at q0; cases q0
def apps (ms : List Msg) (r : Prs) : Prs := ms.foldl (fun r m => mApp m r) r
theorem apps_snoc {ms : List Msg} {m : Msg} {r : Prs} : apps (ms ++ [m]) r = mApp m (apps ms r) := by
  unfold apps
  rw [List.foldl_append]
  rfl
theorem lar_own {m len P K c cR q : Nat} (hK : K = max 8 len) (hl : len ≤ 16) (hm : 16 < m) (hm2 : m ≤ len + P) (hc : 16 ≤ c) (hq : q = (m + 15) / 16) (hcr : cR = c ∨ (c < len + P ∧ cR + 2 ≤ 2 * (len + P))) (h32 : 62 < cR ∨ cR ≤ 32) (h64 : 126 < cR ∨ cR ≤ 64) : 35 * m + 112 * (q - 1) + 37 * q + 4 * cR ≤ 280 * q + 4 * c + ((8 * K - 4 * c) + 27 * (K - 8)) + 39 * P := by
  have hq1 : m ≤ 16 * q ∧ 2 ≤ q := by omega
  have hK1 : len ≤ K ∧ 8 ≤ K ∧ K ≤ 16 := by omega
  clear hq hK
  rcases hcr with h | ⟨h1, h2⟩
  · subst h
    omega
  · have : 8 * K ≤ 4 * c + (8 * K - 4 * c) := by omega
    by_cases e1 : len + P ≤ 32
    · omega
    · by_cases e2 : len + P ≤ 39
      · have hcr : cR ≤ 64 := by omega
        have hP : 17 ≤ P := by omega
        have hkk : 35 * K + 39 * P ≥ 35 * (len + P) + 4 * P := by omega
        by_cases e3 : q = 2
        · subst e3
          omega
        · omega
      · omega
theorem nodup2 {a b : Nat} (h : a ≠ b) : [a, b].Nodup := by simp [h]
theorem tak_leaf : TakS g l 0 := by
  intro d k n α t lo hi now La cL ms w dp Fz hP hLa hmq hls hLo hLw hwt hnr hn hkn hd μ hR
  obtain ⟨⟨p, r⟩, o, row, c⟩ := t
  obtain ⟨hT, hw, hlh, hF, hnd, hof, hfd, hW, hdp, how, hfw⟩ := hP
  obtain ⟨w1, w2, w3, w4, w5⟩ := hw
  have hTp : α p = some (oW (cO 3 [.int o, .ref r])) := hT.1
  have hTr : α r = some (oR row c) := hT.2
  have hown : ownT now 0 ((p, r), o, row, c) = if o = now then [p, r] else [] := rfl
  generalize hK : max 8 row.length = K at *
  have hwt : max 8 row.length + puts ms ≤ 2560 := hwt
  have hPg : Pg now 0 ((p, r), o, row, c) = (if o = now then 8 * K - 4 * c else 37 + 8 * (K - 8)) + 27 * (K - 8) := by
    rw [← hK]; rfl
  have hXr : Xr 0 ((p, r), o, row, c) = 0 := rfl
  have hinc : inc 0 (lo, hi, ((p, r), o, row, c)) ms = ksum (incX 0 (lo, hi, ((p, r), o, row, c))) ms + 39 * puts ms := rfl
  have hWt : Wt w 0 dp = psiK 3 (w.2.2 3 dp) := rfl
  rw [hPg, hXr, hinc, hWt] at hn
  have hKge : 8 ≤ K ∧ row.length ≤ K ∧ K ≤ 16 := by omega
  generalize hI : ksum (incX 0 (lo, hi, ((p, r), o, row, c))) ms = I at *
  generalize hψ : psiK 3 (w.2.2 3 dp) = ψ at *
  have hmlen : ms.length ≤ 1000000 := by
    obtain ⟨r9, rs9, -, -, e1, e2, e3, -⟩ := hR.let hLa
    have : c ≤ capM := Nat.le_trans w5 (by decide)
    rw [List.length_map] at e2
    exact Nat.le_trans e2 e3
  generalize hQ : (fun (o' : Outcome) (μ' : Mem) (k' n' : Nat) => ∃ α', Rep α' μ' ∧ ∃ ca cc, o' = .returned (some (.ref ca)) ∧ ∃ ts w', Rst α Fz now lo hi w dp 0 ((p, r), o, row, c) (fun x => effs (ms.map (·.2)) x (den 0 ((p, r), o, row, c) x)) (wt 0 ((p, r), o, row, c) + puts ms) (Xr 0 ((p, r), o, row, c) + I) α' w' ca cc ts ∧
    n + (ksum (fun c : Kid 0 => Pg now 0 c.2.2) ts + ksum (fun c : Kid 0 => Xr 0 c.2.2) ts) + 112 * (ts.length - 1) + Wt w' 0 dp ≤ n' + (Pg now 0 ((p, r), o, row, c) + Xr 0 ((p, r), o, row, c)) + inc 0 (lo, hi, ((p, r), o, row, c)) ms + Wt w 0 dp ∧ n' ≤ 4 * k') = Q
  have hQ0 := hQ
  -- from the letters on
  have cont : ∀ (ra c0 : Nat) (αa : AM) (μa : Mem) (k0 n0 : Nat), Rep αa μa → αa ra = some (oR row c0) → pw c0 → c0 ≤ 20000 → αa p = some (oW (cO 3 [.int o, .ref r])) → (∀ x o, α x = some o → αa x = some o) → (∀ x o, αa x = some o → x ≠ ra → α x = some o) → WK αa w dp → ¬ wFp w dp ra → ra ≠ p → n0 ≤ 4 * k0 → ((o = now ∧ ra = r ∧ n0 = n ∧ c0 = c) ∨ (o ≠ now ∧ α ra = none ∧ c0 = 16 ∧ n0 + 35 = n ∧ n0 + 2 ≤ 4 * k0)) →
      bB g l M3_take d Q 69 [(0, .ref p), (1, .ref La), (2, .int now), (3, .int lo), (5, .ref w.1), (6, .int (nI dp)), (7, .ref ra)] [] μa k0 n0 := by
    intro ra c0 αa μa k0 n0 hRa hra hpw hc0 hpa hext hback hWa hraw hrp hkn0 hcase
    have hc16 := pw_16 hpw
    have hLaa := hext La _ hLa
    have hLara : La ≠ ra := fun e => by rw [e, hra] at hLaa; cases hLaa
    have hN : 8 * max 8 (row.length + puts ms) ≤ n0 + 4 * c0 ∧ ψ + (n0 + 4 * c0 - 8 * max 8 (row.length + puts ms)) ≥ ψ ∧ 8 * max 8 (row.length + puts ms) + ψ ≤ n0 + 4 * c0 := by
      rcases hcase with ⟨h1, h2, h3, h4⟩ | ⟨h1, h2, h3, h4⟩
      · rw [if_pos h1] at hn; omega
      · rw [if_neg h1] at hn; omega
    obtain ⟨hN1, -, hN2⟩ := hN
    -- after the letters
    have aft : ∀ (R : Prs) (cR : Nat) (μb : Mem) (k1 n1 : Nat), Rep (aset αa ra (oR R cR)) μb → srt R → (∀ x, lkp R x = effs (ms.map (·.2)) x (lkp row x)) → R.length ≤ row.length + puts ms → gR c0 k0 n0 cR k1 n1 (max 8 (row.length + puts ms)) →
        bB g l M3_take d Q 99 [(0, .ref p), (2, .int now), (3, .int lo), (5, .ref w.1), (6, .int (nI dp)), (7, .ref ra)] [] μb k1 n1 := by
      intro R cR μb k1 n1 hRb hsR hlk hlen hgr
      have hg0 := hgr.1
      unfold gR0 at hg0
      have hpwR := hgr.2 hpw
      have hcR := pw_16 hpwR
      have hin : ∀ q ∈ R, lo ≤ q.1 ∧ q.1 ≤ hi := by
        intro q hq
        have h1 := (lkp_iff hsR).mpr (show (q.1, q.2) ∈ R from hq)
        rw [hlk] at h1
        refine Classical.byContradiction (fun hne => ?_)
        rw [i_le, i_le] at hne
        have h2 : lkp row q.1 = none := by
          rw [lkp_none]
          intro v hv
          have := w2 _ hv
          rw [i_le, i_le] at this
          exact hne this
        rw [h2, effs_out] at h1
        · cases h1
        · intro m hm
          obtain ⟨q', hq', rfl⟩ := List.mem_map.mp hm
          obtain ⟨-, b1, b2⟩ := hls q' hq'
          rw [i_le] at b1 b2
          rw [i_le, i_le]
          omega
      have hpb : aset αa ra (oR R cR) p = some (oW (cO 3 [.int o, .ref r])) := (aset_n hrp.symm).trans hpa
      have hrab : aset αa ra (oR R cR) ra = some (oR R cR) := aset_s
      have hWb : WK (aset αa ra (oR R cR)) w dp := hWa.chg hra aset_s hraw (fun x o hx ho => (aset_n hx).trans ho)
      have m1 := hRb.raw hpb
      obtain ⟨kr, vr, kk, vs, f1, f2, f3, f4, f5, f6, f7, f8, f9⟩ := hRb.row hrab
      have mW := hWb.flds hRb
      have hdomb : ∀ x o, α x = some o → ∃ o', aset αa ra (oR R cR) x = some o' := fun x o' hx => by
        by_cases e : x = ra
        · exact ⟨oR R cR, by rw [e]; exact aset_s⟩
        · exact ⟨o', (aset_n e).trans (hext x o' hx)⟩
      have hnone : ∀ x, aset αa ra (oR R cR) x = none → α x = none := fun x hx => by
        cases hy : α x with
        | none => rfl
        | some o' =>
          obtain ⟨o2, h2⟩ := hdomb x o' hy
          rw [hx] at h2; cases h2
      have hψn : psiK 3 (w.2.2 3 dp) ≤ n1 := by rw [hψ]; omega
      have hk1 : n1 ≤ 4 * k1 := by omega
      -- what is known behind made
      have mad : ∀ (α4 : AM) (ca cc k4 n4 : Nat), gotW (aset αa ra (oR R cR)) w dp 3 dp k1 n1 ca cc α4 k4 n4 → α4 ca = some (oP [] cc) ∧ 4 ≤ cc ∧ cc ≤ 800 ∧ n1 + (3200 - 4 * cc) ≤ n4 + ψ ∧ n4 ≤ 4 * k4 ∧ 4 * k1 + n4 ≤ 4 * k4 + n1 ∧ α4 p = some (oW (cO 3 [.int o, .ref r])) ∧ α4 ra = some (oR R cR) ∧ ca ≠ ra ∧ (∀ x o, α x = some o → x ≠ ra → ¬ wFp w dp x → α4 x = some o ∧ x ≠ ca) ∧ (∀ x, α4 x = none → α x = none ∧ x ≠ ra ∧ x ≠ ca) ∧ (∀ c5, wSm α w (wput w 3 dp (ca, c5)) not0 dp) ∧ (∀ x c5, wFp (wput w 3 dp (ca, c5)) dp x → wFp w dp x ∨ x = ca) := by
        intro α4 ca cc k4 n4 hgot
        obtain ⟨g1, g2, g3, g4, g5, g6, g7, g8, g9⟩ := hgot
        rw [hψ, psi3] at g5
        have g1 : α4 ca = some (oP [] cc) := g1
        have nca : ca ≠ ra := fun e => by
          rcases g4 with g4 | g4
          · exact hraw (e ▸ Or.inr ⟨3, dp, cc, by omega, Nat.le_refl _, g4⟩)
          · rw [e, aset_s] at g4; cases g4.2
        have hcase4 : (∃ c0, w.2.2 3 dp = some (ca, c0)) ∨ (w.2.2 3 dp = none ∧ α ca = none) := by
          rcases g4 with g4 | g4
          · exact Or.inl ⟨_, g4⟩
          · exact Or.inr ⟨g4.1, hnone _ g4.2⟩
        have hkeep : ∀ x o, α x = some o → x ≠ ra → ¬ wFp w dp x → α4 x = some o ∧ x ≠ ca := by
          intro x o' hx h1 h2
          have h3 : x ≠ ca := fun e => by
            rcases hcase4 with ⟨c9, h⟩ | h
            · exact h2 (e ▸ Or.inr ⟨3, dp, c9, by omega, Nat.le_refl _, h⟩)
            · rw [← e, hx] at h; cases h.2
          exact ⟨g3 x o' ((aset_n h1).trans (hext x o' hx)) h3 (fun e => h2 (Or.inl ⟨3, by omega, e⟩)), h3⟩
        have hrawne : ∀ x cl, aset αa ra (oR R cR) x = some (oW cl) → x ≠ ca := fun x cl hx e => by
          rcases g4 with g4 | g4
          · obtain ⟨c', hc'⟩ := (hWb.2.2.1 3 dp ca cc (by omega) g4).1
            obtain ⟨o', ho', hne⟩ := hc'.some
            rw [e, ho'] at hx
            exact hne _ (Option.some.inj hx)
          · rw [e, g4.2] at hx; cases hx
        refine ⟨g1, g7, g8, g5, g6, g9, ?_, ?_, nca, hkeep, ?_, fun c5 => wSm_put hcase4 (by unfold not0; omega) (Nat.le_refl _), ?_⟩
        · refine g3 p _ hpb (hrawne p _ hpb) (fun e => ?_)
          rw [e, hWb.2.1 3 (by omega)] at hpb
          cases hpb
        · refine g3 ra _ hrab nca.symm (fun e => ?_)
          have h9 := hWb.2.1 3 (by omega)
          rw [← e, hrab] at h9
          cases h9
        · intro x hx
          have h1 : aset αa ra (oR R cR) x = none := by
            cases hy : aset αa ra (oR R cR) x with
            | none => rfl
            | some o' =>
              by_cases e : x = ca
              · rw [e, g1] at hx; cases hx
              · by_cases e2 : x = w.2.1 3
                · have h9 : α4 (w.2.1 3) = _ := g2.2.1 3 (by omega)
                  rw [e2, h9] at hx; cases hx
                · rw [g3 x o' hy e e2] at hx; cases hx
          refine ⟨hnone x h1, fun e => (by rw [e, aset_s] at h1; cases h1), fun e => (by rw [e, g1] at hx; cases hx)⟩
        · intro x c5 hx
          rcases hx with hx | ⟨kd, j, c9, hk, hj, e⟩
          · exact Or.inl (Or.inl hx)
          · by_cases e2 : kd = 3 ∧ j = dp
            · obtain ⟨rfl, rfl⟩ := e2
              rw [wput_s] at e
              cases e
              exact Or.inr rfl
            · rw [wput_n e2] at e
              exact Or.inl (Or.inr ⟨kd, j, c9, hk, hj, e⟩)
      -- one leaf
      have one : ∀ (pp : Nat) (α5 : AM) (ca c5 k5 n5 : Nat), α5 pp = some (oW (cO 3 [.int now, .ref ra])) → α5 ra = some (oR R cR) → α5 ca = some (oP [(pp, lo)] c5) → c5 ≤ 800 → R.length ≤ 16 → pp ≠ ra → pp ≠ ca → ca ≠ ra → ((pp = p ∧ o = now ∧ ra = r) ∨ (α pp = none ∧ α ra = none)) → WK α5 (wput w 3 dp (ca, c5)) dp → wSm α w (wput w 3 dp (ca, c5)) not0 dp → (∀ x c5, wFp (wput w 3 dp (ca, c5)) dp x → wFp w dp x ∨ x = ca) → (∀ x o', α x = some o' → x ∉ ownT now 0 ((p, r), o, row, c) → ¬ wFp w dp x → α5 x = some o') → (∀ x, isPg α x → isPg α5 x) → (∀ x o', α x = some o' → ∃ o2, α5 x = some o2) →
          n + ((8 * max 8 R.length - 4 * cR) + 27 * (max 8 R.length - 8)) + (3200 - 4 * c5) ≤ n5 + ((if o = now then 8 * K - 4 * c else 37 + 8 * (K - 8)) + 27 * (K - 8)) + (I + 39 * puts ms) + ψ → n5 ≤ 4 * k5 → ∀ μ5, Rep α5 μ5 → Q (.returned (some (.ref ca))) μ5 k5 n5 := by
        intro pp α5 ca c5 k5 n5 e1 e2 e3 e3' e4 e5 e6 e7 e8 e9 e10 e11 e12 e12' e12'' e13 e14 μ5 hR5
        subst hQ0
        have ho5 : ownT now 0 (mkL pp ra now R cR) = [pp, ra] := if_pos rfl
        have hof5 : ownF now 0 [(lo, hi, mkL pp ra now R cR)] = [pp, ra] := by
          show ownT now 0 (mkL pp ra now R cR) ++ [] = _
          rw [ho5]; rfl
        have hwfne : ∀ x ∈ [pp, ra], ¬ wFp (wput w 3 dp (ca, c5)) dp x := by
          intro x hx hf
          rcases e11 x c5 hf with h | h
          · rcases List.mem_cons.mp hx with e | hx
            · subst e
              rcases e8 with ⟨h1, h2, h3⟩ | ⟨h1, h2⟩
              · exact how x (by rw [hown, if_pos h2, h1]; exact List.mem_cons_self) h
              · obtain ⟨o', ho', -⟩ := hW.dom h
                rw [h1] at ho'; cases ho'
            · rw [List.mem_singleton.mp hx] at h
              exact hraw h
          · rcases List.mem_cons.mp hx with e | hx
            · subst e; exact e6 h
            · rw [List.mem_singleton.mp hx] at h
              exact e7 h.symm
        refine ⟨α5, hR5, ca, c5, rfl, [(lo, hi, mkL pp ra now R cR)], wput w 3 dp (ca, c5), ⟨wput_s, e3, by simp, ⟨rfl, hlh, rfl⟩, ?_, ?_, ?_, by rw [hof5]; exact nodup2 e5, ?_, by rw [hof5]; exact hwfne, ?_, ?_, fun _ c _ => trivial, fun _ => ⟨fun c _ => trivial, fun c _ => trivial⟩, ?_, e9, e10, e12, e12', e12''⟩, ?_, e14⟩
        · intro c9 hc9
          rw [List.mem_singleton.mp hc9]
          exact ⟨e1, e2⟩
        · intro c9 hc9
          rw [List.mem_singleton.mp hc9]
          exact ⟨hsR, hin, e4, hpwR, by omega⟩
        · intro c9 hc9
          rw [List.mem_singleton.mp hc9]
          exact ⟨Int.le_refl _, fun h => absurd rfl h⟩
        · rw [hof5]
          intro x hx
          rcases e8 with ⟨h1, h2, h3⟩ | ⟨h1, h2⟩
          · left
            rw [hown, if_pos h2, ← h1, ← h3]
            exact hx
          · right
            rcases List.mem_cons.mp hx with e | hx
            · rw [e]; exact h1
            · rw [List.mem_singleton.mp hx]; exact h2
        · intro x h1 h2
          unfold dnk
          rw [List.find?_cons_of_pos (by rw [kin_iff]; rw [i_le] at h1 h2; exact ⟨h1, h2⟩)]
          exact hlk x
        · show ksum _ [_] ≤ _
          rw [ksum_cons, ksum_nil]
          show max 8 R.length + 0 ≤ max 8 row.length + puts ms
          omega
        · show ksum _ [_] ≤ _
          rw [ksum_cons, ksum_nil]
          exact Nat.zero_le _
        · rw [ksum_cons, ksum_nil, ksum_cons, ksum_nil, hPg, hXr, hinc]
          show n + (((if now = now then _ else _) + 27 * (max 8 R.length - 8)) + 0 + (0 + 0)) + 112 * (1 - 1) + psiK 3 ((wput w 3 dp (ca, c5)).2.2 3 dp) ≤ _ + Wt w 0 dp
          rw [if_pos rfl, wput_s, psi3, hWt]
          omega
      -- parts
      have par : bB g l M3_take d Q 132 [(0, .ref p), (2, .int now), (3, .int lo), (5, .ref w.1), (6, .int (nI dp)), (7, .ref ra)] [] μb k1 n1 ∨ (o = now ∧ R.length ≤ 16) := by
        by_cases hbr : o = now ∧ R.length ≤ 16
        · exact Or.inr hbr
        · left
          first | refine b_aload dX3_take_132 rfl ?_ | refine b_aloadN dX3_take_132 rfl ?_
          refine b_iload_n dX3_take_134 rfl ?_
          refine b_iload_n dX3_take_135 rfl ?_
          first | refine b_aload dX3_take_136 rfl ?_ | refine b_aloadN dX3_take_136 rfl ?_
          refine b_iload dX3_take_138 rfl ?_
          refine b_call (As := [.ref w.1, .int (nI dp)]) (rest := [.int lo, .int now, .ref ra]) s3_66 dX3_take_140 rfl rfl (fun ci hci => by cases hci; exact ⟨_, _, _, rfl, by first | assumption | exact mset_s | exact Rep.raw (by assumption) (by assumption) | (refine (mset_n (by first | assumption | exact Ne.symm (by assumption) | exact ne_fr (by assumption) (by assumption) | exact Ne.symm (ne_fr (by assumption) (by assumption)))).trans ?_; first | assumption | exact mset_s | exact Rep.raw (by assumption) (by assumption) | (refine (mset_n (by first | assumption | exact Ne.symm (by assumption) | exact ne_fr (by assumption) (by assumption) | exact Ne.symm (ne_fr (by assumption) (by assumption)))).trans ?_; first | assumption | exact mset_s | exact Rep.raw (by assumption) (by assumption) | (refine (mset_n (by first | assumption | exact Ne.symm (by assumption) | exact ne_fr (by assumption) (by assumption) | exact Ne.symm (ne_fr (by assumption) (by assumption)))).trans ?_; first | assumption | exact mset_s | exact Rep.raw (by assumption) (by assumption) | (refine (mset_n (by first | assumption | exact Ne.symm (by assumption) | exact ne_fr (by assumption) (by assumption) | exact Ne.symm (ne_fr (by assumption) (by assumption)))).trans ?_; first | assumption | exact mset_s | exact Rep.raw (by assumption) (by assumption) | (refine (mset_n (by first | assumption | exact Ne.symm (by assumption) | exact ne_fr (by assumption) (by assumption) | exact Ne.symm (ne_fr (by assumption) (by assumption)))).trans ?_; first | assumption | exact mset_s | exact Rep.raw (by assumption) (by assumption) | (refine (mset_n (by first | assumption | exact Ne.symm (by assumption) | exact ne_fr (by assumption) (by assumption) | exact Ne.symm (ne_fr (by assumption) (by assumption)))).trans ?_; first | assumption | exact mset_s | exact Rep.raw (by assumption) (by assumption) | (refine (mset_n (by first | assumption | exact Ne.symm (by assumption) | exact ne_fr (by assumption) (by assumption) | exact Ne.symm (ne_fr (by assumption) (by assumption)))).trans ?_; assumption)))))))⟩) (sp_made (d := d - 1) hWb (Nat.le_refl _) (by omega) hψn hk1 (by omega) _ hRb) (by first | (rintro _ _ _ _ ⟨h, -⟩; exact ⟨_, h⟩) | (rintro _ _ _ _ ⟨_, h, -⟩; exact ⟨_, h⟩) | (rintro _ _ _ _ ⟨_, _, h, -⟩; exact ⟨_, h⟩) | (rintro _ _ _ _ ⟨_, _, _, h, -⟩; exact ⟨_, h⟩) | (rintro _ _ _ _ ⟨_, _, _, _, h, -⟩; exact ⟨_, h⟩)) (by omega) (Nat.le_of_ble_eq_true rfl) (fun v4 μ4 k4 n4 hk4 hn4 hQ4 => ?_)
          obtain ⟨α4, hR4, ca, cc, z1, hgot⟩ := hQ4
          cases z1
          have hW4 := hgot.2.1
          obtain ⟨y1, y2, y3, y4, y5, y5', y6, y7, y8, y9, y10, y11, y12⟩ := mad α4 ca cc k4 n4 hgot
          have domk : ∀ α9 : AM, (∀ y o', α4 y = some o' → y ≠ ca → α9 y = some o') → (∃ o2, α9 ca = some o2) → ∀ x o', α x = some o' → ∃ o2, α9 x = some o2 := by
            intro α9 h9 hc9 x o' hx
            by_cases e : x = ca
            · rw [e]; exact hc9
            · cases hy : α4 x with
              | none => rw [(y10 x hy).1] at hx; cases hx
              | some o2 => exact ⟨o2, h9 x o2 hy e⟩
          have pgk : ∀ α9 : AM, (∀ y o', α4 y = some o' → y ≠ ca → α9 y = some o') → ∀ x, isPg α x → isPg α9 x := by
            intro α9 h9 x hx
            have hxra : x ≠ ra := fun e => by
              have h8 : isPg αa x := hx.ext (fun y o' hy => hext y o' hy)
              rcases h8 with ⟨fs, h8⟩ | ⟨fs, h8⟩ <;> (rw [e, hra] at h8; cases h8)
            have hxw : ¬ wFp w dp x := hW.pg hx
            rcases hx with ⟨fs, h8⟩ | ⟨fs, h8⟩
            · obtain ⟨v1, v2⟩ := y9 x _ h8 hxra hxw
              exact Or.inl ⟨fs, h9 x _ v1 v2⟩
            · obtain ⟨v1, v2⟩ := y9 x _ h8 hxra hxw
              exact Or.inr ⟨fs, h9 x _ v1 v2⟩
          by_cases h16 : R.length ≤ 16
          · have hfz : o ≠ now := fun e => hbr ⟨e, h16⟩
            rcases hcase with ⟨h1, -⟩ | ⟨h1, h2, h3, h4, h5⟩
            · exact absurd h1 hfz
            have hslk : n1 + 2 ≤ 4 * k1 := by omega
            have hslk4 : n4 + 2 ≤ 4 * k4 := by omega
            refine b_call (As := [.ref ra, .int now, .int lo, .ref ca]) (rest := []) s3_77 dX3_take_143 rfl rfl (fun ci hci => by cases hci) (sp_lparts1 (d := d - 1) y7 y1 h16 y2 y3 (by rw [if_neg h1] at hn; omega) hslk4 (by omega) _ hR4) (by first | (rintro _ _ _ _ ⟨h, -⟩; exact ⟨_, h⟩) | (rintro _ _ _ _ ⟨_, h, -⟩; exact ⟨_, h⟩) | (rintro _ _ _ _ ⟨_, _, h, -⟩; exact ⟨_, h⟩) | (rintro _ _ _ _ ⟨_, _, _, h, -⟩; exact ⟨_, h⟩) | (rintro _ _ _ _ ⟨_, _, _, _, h, -⟩; exact ⟨_, h⟩)) (by omega) (Nat.le_of_ble_eq_true rfl) (fun v5 μ5 k5 n5 hk5 hn5 hQ5 => ?_)
            obtain ⟨α5, hR5, pp, c5, x1, x2, x3, x4, x5, x6, x7⟩ := hQ5
            cases x1
            refine b_aret dX3_take_146 rfl (Or.inr ⟨_, rfl⟩) ?_
            obtain ⟨u1, u2, u3⟩ := y10 pp x2
            have hW4' : WK (aset α4 pp (oW (cO 3 [.int now, .ref ra]))) (wput w 3 dp (ca, cc)) dp := hW4.frame (fun x o' _ hx => (aset_n (fun e => by rw [e, x2] at hx; cases hx)).trans hx)
            have hW5 : WK α5 (wput w 3 dp (ca, c5)) dp := by
              have := hW4'.upd (α' := α5) (kd := 3) (j := dp) (a := ca) (c := cc) (c' := c5) (by omega) wput_s ⟨[(pp, lo)], by rw [x3]; exact aset_s⟩ x4 x5 (fun x o' hx ho => by rw [x3]; exact (aset_n hx).trans ho)
              rw [wput2] at this
              exact this
            refine one pp α5 ca c5 k5 n5 (by rw [x3]; exact (aset_n u3).trans aset_s) (by rw [x3]; exact (aset_n y8.symm).trans ((aset_n u2.symm).trans y7)) (by rw [x3]; exact aset_s) x5 h16 u2 u3 y8 (Or.inr ⟨u1, h2⟩) hW5 (y11 c5) y12 (fun x o' hx h1' h2' => ?_) (fun x hx => ?_) (domk α5 (fun y o' hy1 hy2 => ?_) ⟨_, by rw [x3]; exact aset_s⟩) ?_ x7 _ hR5
            · have hxra : x ≠ ra := fun e => by rw [e, h2] at hx; cases hx
              obtain ⟨v1, v2⟩ := y9 x o' hx hxra h2'
              rw [x3]
              exact (aset_n v2).trans ((aset_n (fun e => by rw [e, x2] at v1; cases v1)).trans v1)
            · refine pgk α5 (fun y o' hy1 hy2 => ?_) x hx
              rw [x3]
              exact (aset_n hy2).trans ((aset_n (fun e => by rw [e, x2] at hy1; cases hy1)).trans hy1)
            · rw [x3]
              exact (aset_n hy2).trans ((aset_n (fun e => by rw [e, x2] at hy1; cases hy1)).trans hy1)
            · rw [if_neg h1]
              omega
          · have hq2 : 2 ≤ (R.length + 15) / 16 := by omega
            have hcr : cR = c0 ∨ (c0 < max 8 (row.length + puts ms) ∧ cR + 2 ≤ 2 * max 8 (row.length + puts ms)) := hg0.2.1
            have hp32 : 62 < cR ∨ cR ≤ 32 := by
              by_cases e : cR ≤ 62
              · exact Or.inr (pw_32 hpwR e)
              · exact Or.inl (by omega)
            have hp64 : 126 < cR ∨ cR ≤ 64 := by
              by_cases e : cR ≤ 126
              · exact Or.inr (pw_64 hpwR e)
              · exact Or.inl (by omega)
            have hkey : 35 * R.length + 112 * ((R.length + 15) / 16 - 1) + 37 * ((R.length + 15) / 16) + n + 4 * cR + ψ ≤ 280 * ((R.length + 15) / 16) + n0 + 4 * c0 + ((if o = now then 8 * K - 4 * c else 37 + 8 * (K - 8)) + 27 * (K - 8)) + (I + 39 * puts ms) + ψ := by
              rcases hcase with ⟨h1, h2, h3, h4⟩ | ⟨h1, h2, h3, h4, h5⟩
              · rw [if_pos h1]
                have := lar_own (m := R.length) (len := row.length) (P := puts ms) (K := K) (c := c) (cR := cR) hK.symm w3 (by omega) hlen (by omega) rfl (by omega) hp32 hp64
                omega
              · rw [if_neg h1]
                have := lar_own (m := R.length) (len := row.length) (P := puts ms) (K := K) (c := 16) (cR := cR) hK.symm w3 (by omega) hlen (by omega) rfl (by omega) hp32 hp64
                omega
            refine b_call (As := [.ref ra, .int now, .int lo, .ref ca]) (rest := []) s3_77 dX3_take_143 rfl rfl (fun ci hci => by cases hci) (sp_lparts2 (d := d - 1) (hi := hi) y7 y1 (by omega) (by omega) rfl y2 y3 (by omega) y5 (by omega) _ hR4) (by first | (rintro _ _ _ _ ⟨h, -⟩; exact ⟨_, h⟩) | (rintro _ _ _ _ ⟨_, h, -⟩; exact ⟨_, h⟩) | (rintro _ _ _ _ ⟨_, _, h, -⟩; exact ⟨_, h⟩) | (rintro _ _ _ _ ⟨_, _, _, h, -⟩; exact ⟨_, h⟩) | (rintro _ _ _ _ ⟨_, _, _, _, h, -⟩; exact ⟨_, h⟩)) (by omega) (Nat.le_of_ble_eq_true rfl) (fun v5 μ5 k5 n5 hk5 hn5 hQ5 => ?_)
            obtain ⟨α5, hR5, ks, c5, x1, x2, x3, x4, x5, x6, x7, x8, x9, x10, x11, x12⟩ := hQ5
            cases x1
            refine b_aret dX3_take_146 rfl (Or.inr ⟨_, rfl⟩) ?_
            obtain ⟨l1, l2, l3, l4, l5, l6⟩ := lforest hsR hin hq2 (by omega) (by omega) x3 x2
            have hW5 : WK α5 (wput w 3 dp (ca, c5)) dp := by
              have := hW4.upd (α' := α5) (kd := 3) (j := dp) (a := ca) (c := cc) (c' := c5) (by omega) wput_s ⟨kA ks, x8⟩ x9 x10 (fun x o' hx ho => x7 x o' ho hx)
              rw [wput2] at this
              exact this
            subst hQ0
            have hofk : ownF now 0 ks = ks.flatMap (fun c => allT 0 c.2.2) := by
              unfold ownF
              rw [List.flatMap_def, List.flatMap_def]
              congr 1
              refine List.map_congr_left (fun c9 hc9 => ?_)
              have := l6 c9 hc9
              obtain ⟨lo9, hi9, ⟨p9, r9⟩, o9, row9, cc9⟩ := c9
              have this : o9 = now := this
              show (if o9 = now then [p9, r9] else []) = [p9, r9]
              rw [if_pos this]
            have hkn9 : ∀ x ∈ ownF now 0 ks, α4 x = none := fun x hx => by
              rw [hofk] at hx
              obtain ⟨c9, hc9, hx9⟩ := List.mem_flatMap.mp hx
              exact x6 c9 hc9 x hx9
            refine ⟨α5, hR5, ca, c5, rfl, ks, wput w 3 dp (ca, c5), ⟨wput_s, x8, by omega, l1, x4, l2, ?_, by rw [hofk]; exact x5, fun x hx => Or.inr (y10 x (hkn9 x hx)).1, fun x hx hf => ?_, fun x h1 h2 => (l3 x h1 h2).trans (hlk x), ?_, fun _ c _ => trivial, fun _ => ⟨fun c _ => trivial, fun c _ => trivial⟩, ?_, hW5, y11 c5, fun x o' hx h1' h2' => ?_, pgk α5 (fun y o' hy1 hy2 => x7 y o' hy1 hy2), domk α5 (fun y o' hy1 hy2 => x7 y o' hy1 hy2) ⟨_, x8⟩⟩, ?_, x12⟩
            · intro c9 hc9
              have := l6 c9 hc9
              obtain ⟨lo9, hi9, ⟨p9, r9⟩, o9, row9, cc9⟩ := c9
              have this : o9 = now := this
              exact ⟨by rw [this]; exact Int.le_refl _, fun h => absurd this h⟩
            · obtain ⟨u1, u2, u3⟩ := y10 x (hkn9 x hx)
              rcases y12 x c5 hf with h | h
              · obtain ⟨o', ho', -⟩ := hW.dom h
                rw [u1] at ho'; cases ho'
              · exact u3 h
            · rw [l4]
              show R.length ≤ max 8 row.length + puts ms
              omega
            · rw [ksum_zero (f := fun c : Kid 0 => Xr 0 c.2.2) (fun c _ => rfl)]
              exact Nat.zero_le _
            · have hxra : x ≠ ra := fun e => by
                rcases hcase with ⟨q1, q2, -⟩ | ⟨q1, q2, -⟩
                · exact h1' (by rw [hown, if_pos q1, e, q2]; simp)
                · rw [e, q2] at hx; cases hx
              obtain ⟨v1, v2⟩ := y9 x o' hx hxra h2'
              exact x7 x o' v1 v2
            · rw [hPg, hXr, hinc, ksum_zero (f := fun c : Kid 0 => Xr 0 c.2.2) (fun c _ => rfl), x2]
              show _ + psiK 3 ((wput w 3 dp (ca, c5)).2.2 3 dp) ≤ _ + Wt w 0 dp
              rw [wput_s, psi3, hWt]
              omega
      first | refine b_aload_n dX3_take_99 rfl ?_ | refine b_aload_nN dX3_take_99 rfl ?_
      refine b_getf dX3_take_100 f3_50 (by first | assumption | exact mset_s | exact Rep.raw (by assumption) (by assumption) | (refine (mset_n (by first | assumption | exact Ne.symm (by assumption) | exact ne_fr (by assumption) (by assumption) | exact Ne.symm (ne_fr (by assumption) (by assumption)))).trans ?_; first | assumption | exact mset_s | exact Rep.raw (by assumption) (by assumption) | (refine (mset_n (by first | assumption | exact Ne.symm (by assumption) | exact ne_fr (by assumption) (by assumption) | exact Ne.symm (ne_fr (by assumption) (by assumption)))).trans ?_; first | assumption | exact mset_s | exact Rep.raw (by assumption) (by assumption) | (refine (mset_n (by first | assumption | exact Ne.symm (by assumption) | exact ne_fr (by assumption) (by assumption) | exact Ne.symm (ne_fr (by assumption) (by assumption)))).trans ?_; first | assumption | exact mset_s | exact Rep.raw (by assumption) (by assumption) | (refine (mset_n (by first | assumption | exact Ne.symm (by assumption) | exact ne_fr (by assumption) (by assumption) | exact Ne.symm (ne_fr (by assumption) (by assumption)))).trans ?_; first | assumption | exact mset_s | exact Rep.raw (by assumption) (by assumption) | (refine (mset_n (by first | assumption | exact Ne.symm (by assumption) | exact ne_fr (by assumption) (by assumption) | exact Ne.symm (ne_fr (by assumption) (by assumption)))).trans ?_; first | assumption | exact mset_s | exact Rep.raw (by assumption) (by assumption) | (refine (mset_n (by first | assumption | exact Ne.symm (by assumption) | exact ne_fr (by assumption) (by assumption) | exact Ne.symm (ne_fr (by assumption) (by assumption)))).trans ?_; first | assumption | exact mset_s | exact Rep.raw (by assumption) (by assumption) | (refine (mset_n (by first | assumption | exact Ne.symm (by assumption) | exact ne_fr (by assumption) (by assumption) | exact Ne.symm (ne_fr (by assumption) (by assumption)))).trans ?_; assumption)))))))) rfl ?_
      refine b_iload_n dX3_take_103 rfl ?_
      refine b_icmp_ne (tgt := 132) dX3_take_104 (by decide) (fun h104 => ?_) (fun h104 => ?_)
      · exact bB.locs rfl (par.resolve_right (fun h => h104 h.1))
      · first | refine b_aload dX3_take_107 rfl ?_ | refine b_aloadN dX3_take_107 rfl ?_
        refine b_getf dX3_take_109 f3_36 (by first | assumption | exact mset_s | exact Rep.raw (by assumption) (by assumption) | (refine (mset_n (by first | assumption | exact Ne.symm (by assumption) | exact ne_fr (by assumption) (by assumption) | exact Ne.symm (ne_fr (by assumption) (by assumption)))).trans ?_; first | assumption | exact mset_s | exact Rep.raw (by assumption) (by assumption) | (refine (mset_n (by first | assumption | exact Ne.symm (by assumption) | exact ne_fr (by assumption) (by assumption) | exact Ne.symm (ne_fr (by assumption) (by assumption)))).trans ?_; first | assumption | exact mset_s | exact Rep.raw (by assumption) (by assumption) | (refine (mset_n (by first | assumption | exact Ne.symm (by assumption) | exact ne_fr (by assumption) (by assumption) | exact Ne.symm (ne_fr (by assumption) (by assumption)))).trans ?_; first | assumption | exact mset_s | exact Rep.raw (by assumption) (by assumption) | (refine (mset_n (by first | assumption | exact Ne.symm (by assumption) | exact ne_fr (by assumption) (by assumption) | exact Ne.symm (ne_fr (by assumption) (by assumption)))).trans ?_; first | assumption | exact mset_s | exact Rep.raw (by assumption) (by assumption) | (refine (mset_n (by first | assumption | exact Ne.symm (by assumption) | exact ne_fr (by assumption) (by assumption) | exact Ne.symm (ne_fr (by assumption) (by assumption)))).trans ?_; first | assumption | exact mset_s | exact Rep.raw (by assumption) (by assumption) | (refine (mset_n (by first | assumption | exact Ne.symm (by assumption) | exact ne_fr (by assumption) (by assumption) | exact Ne.symm (ne_fr (by assumption) (by assumption)))).trans ?_; first | assumption | exact mset_s | exact Rep.raw (by assumption) (by assumption) | (refine (mset_n (by first | assumption | exact Ne.symm (by assumption) | exact ne_fr (by assumption) (by assumption) | exact Ne.symm (ne_fr (by assumption) (by assumption)))).trans ?_; assumption)))))))) rfl ?_
        refine b_bipush (v := 16) dX3_take_112 (by decide) ?_
        refine b_icmp_gt (tgt := 132) dX3_take_114 (by decide) (fun h114 => ?_) (fun h114 => ?_)
        · rw [show (16 : Int32) = nI 16 from rfl, nI_ltI (by omega) (by omega)] at h114
          exact bB.locs rfl (par.resolve_right (fun h => by omega))
        · rw [show (16 : Int32) = nI 16 from rfl, nI_ltI (by omega) (by omega)] at h114
          obtain ⟨q1, q2, q3, q4⟩ : o = now ∧ ra = r ∧ n0 = n ∧ c0 = c := by
            rcases hcase with h | ⟨q1, -⟩
            · exact h
            · exact absurd h104 q1
          first | refine b_aload dX3_take_117 rfl ?_ | refine b_aloadN dX3_take_117 rfl ?_
          refine b_iload dX3_take_119 rfl ?_
          refine b_call (As := [.ref w.1, .int (nI dp)]) (rest := []) s3_66 dX3_take_121 rfl rfl (fun ci hci => by cases hci; exact ⟨_, _, _, rfl, by first | assumption | exact mset_s | exact Rep.raw (by assumption) (by assumption) | (refine (mset_n (by first | assumption | exact Ne.symm (by assumption) | exact ne_fr (by assumption) (by assumption) | exact Ne.symm (ne_fr (by assumption) (by assumption)))).trans ?_; first | assumption | exact mset_s | exact Rep.raw (by assumption) (by assumption) | (refine (mset_n (by first | assumption | exact Ne.symm (by assumption) | exact ne_fr (by assumption) (by assumption) | exact Ne.symm (ne_fr (by assumption) (by assumption)))).trans ?_; first | assumption | exact mset_s | exact Rep.raw (by assumption) (by assumption) | (refine (mset_n (by first | assumption | exact Ne.symm (by assumption) | exact ne_fr (by assumption) (by assumption) | exact Ne.symm (ne_fr (by assumption) (by assumption)))).trans ?_; first | assumption | exact mset_s | exact Rep.raw (by assumption) (by assumption) | (refine (mset_n (by first | assumption | exact Ne.symm (by assumption) | exact ne_fr (by assumption) (by assumption) | exact Ne.symm (ne_fr (by assumption) (by assumption)))).trans ?_; first | assumption | exact mset_s | exact Rep.raw (by assumption) (by assumption) | (refine (mset_n (by first | assumption | exact Ne.symm (by assumption) | exact ne_fr (by assumption) (by assumption) | exact Ne.symm (ne_fr (by assumption) (by assumption)))).trans ?_; first | assumption | exact mset_s | exact Rep.raw (by assumption) (by assumption) | (refine (mset_n (by first | assumption | exact Ne.symm (by assumption) | exact ne_fr (by assumption) (by assumption) | exact Ne.symm (ne_fr (by assumption) (by assumption)))).trans ?_; first | assumption | exact mset_s | exact Rep.raw (by assumption) (by assumption) | (refine (mset_n (by first | assumption | exact Ne.symm (by assumption) | exact ne_fr (by assumption) (by assumption) | exact Ne.symm (ne_fr (by assumption) (by assumption)))).trans ?_; assumption)))))))⟩) (sp_made (d := d - 1) hWb (Nat.le_refl _) (by omega) hψn hk1 (by omega) _ hRb) (by first | (rintro _ _ _ _ ⟨h, -⟩; exact ⟨_, h⟩) | (rintro _ _ _ _ ⟨_, h, -⟩; exact ⟨_, h⟩) | (rintro _ _ _ _ ⟨_, _, h, -⟩; exact ⟨_, h⟩) | (rintro _ _ _ _ ⟨_, _, _, h, -⟩; exact ⟨_, h⟩) | (rintro _ _ _ _ ⟨_, _, _, _, h, -⟩; exact ⟨_, h⟩)) (by omega) (Nat.le_of_ble_eq_true rfl) (fun v4 μ4 k4 n4 hk4 hn4 hQ4 => ?_)
          obtain ⟨α4, hR4, ca, cc, z1, hgot⟩ := hQ4
          cases z1
          have hW4 := hgot.2.1
          obtain ⟨y1, y2, y3, y4, y5, y5', y6, y7, y8, y9, y10, y11, y12⟩ := mad α4 ca cc k4 n4 hgot
          have domk : ∀ α9 : AM, (∀ y o', α4 y = some o' → y ≠ ca → α9 y = some o') → (∃ o2, α9 ca = some o2) → ∀ x o', α x = some o' → ∃ o2, α9 x = some o2 := by
            intro α9 h9 hc9 x o' hx
            by_cases e : x = ca
            · rw [e]; exact hc9
            · cases hy : α4 x with
              | none => rw [(y10 x hy).1] at hx; cases hx
              | some o2 => exact ⟨o2, h9 x o2 hy e⟩
          have pgk : ∀ α9 : AM, (∀ y o', α4 y = some o' → y ≠ ca → α9 y = some o') → ∀ x, isPg α x → isPg α9 x := by
            intro α9 h9 x hx
            have hxra : x ≠ ra := fun e => by
              have h8 : isPg αa x := hx.ext (fun y o' hy => hext y o' hy)
              rcases h8 with ⟨fs, h8⟩ | ⟨fs, h8⟩ <;> (rw [e, hra] at h8; cases h8)
            have hxw : ¬ wFp w dp x := hW.pg hx
            rcases hx with ⟨fs, h8⟩ | ⟨fs, h8⟩
            · obtain ⟨v1, v2⟩ := y9 x _ h8 hxra hxw
              exact Or.inl ⟨fs, h9 x _ v1 v2⟩
            · obtain ⟨v1, v2⟩ := y9 x _ h8 hxra hxw
              exact Or.inr ⟨fs, h9 x _ v1 v2⟩
          first | refine b_aload_n dX3_take_124 rfl ?_ | refine b_aload_nN dX3_take_124 rfl ?_
          refine b_iload_n dX3_take_125 rfl ?_
          have nrp : p ≠ ca := fun e => by rw [e, y1] at y6; cases y6
          obtain ⟨xx, yy, xxs, zzs, mca, -⟩ := hR4.pgs y1
          refine b_call (As := [.ref ca, .ref p, .int lo]) (rest := []) s3_72 dX3_take_126 rfl rfl (fun ci hci => by cases hci; exact ⟨_, _, _, rfl, by first | assumption | exact mset_s | exact Rep.raw (by assumption) (by assumption) | (refine (mset_n (by first | assumption | exact Ne.symm (by assumption) | exact ne_fr (by assumption) (by assumption) | exact Ne.symm (ne_fr (by assumption) (by assumption)))).trans ?_; first | assumption | exact mset_s | exact Rep.raw (by assumption) (by assumption) | (refine (mset_n (by first | assumption | exact Ne.symm (by assumption) | exact ne_fr (by assumption) (by assumption) | exact Ne.symm (ne_fr (by assumption) (by assumption)))).trans ?_; first | assumption | exact mset_s | exact Rep.raw (by assumption) (by assumption) | (refine (mset_n (by first | assumption | exact Ne.symm (by assumption) | exact ne_fr (by assumption) (by assumption) | exact Ne.symm (ne_fr (by assumption) (by assumption)))).trans ?_; first | assumption | exact mset_s | exact Rep.raw (by assumption) (by assumption) | (refine (mset_n (by first | assumption | exact Ne.symm (by assumption) | exact ne_fr (by assumption) (by assumption) | exact Ne.symm (ne_fr (by assumption) (by assumption)))).trans ?_; first | assumption | exact mset_s | exact Rep.raw (by assumption) (by assumption) | (refine (mset_n (by first | assumption | exact Ne.symm (by assumption) | exact ne_fr (by assumption) (by assumption) | exact Ne.symm (ne_fr (by assumption) (by assumption)))).trans ?_; first | assumption | exact mset_s | exact Rep.raw (by assumption) (by assumption) | (refine (mset_n (by first | assumption | exact Ne.symm (by assumption) | exact ne_fr (by assumption) (by assumption) | exact Ne.symm (ne_fr (by assumption) (by assumption)))).trans ?_; first | assumption | exact mset_s | exact Rep.raw (by assumption) (by assumption) | (refine (mset_n (by first | assumption | exact Ne.symm (by assumption) | exact ne_fr (by assumption) (by assumption) | exact Ne.symm (ne_fr (by assumption) (by assumption)))).trans ?_; assumption)))))))⟩) (sp_padd' (d := d - 1) y1 (Or.inl ⟨_, y6⟩) (fun q hq => by cases hq) (N := 400) (by simp) y2 (by omega) (by omega) (by omega) _ hR4) (by first | (rintro _ _ _ _ ⟨h, -⟩; exact ⟨_, h⟩) | (rintro _ _ _ _ ⟨_, h, -⟩; exact ⟨_, h⟩) | (rintro _ _ _ _ ⟨_, _, h, -⟩; exact ⟨_, h⟩) | (rintro _ _ _ _ ⟨_, _, _, h, -⟩; exact ⟨_, h⟩) | (rintro _ _ _ _ ⟨_, _, _, _, h, -⟩; exact ⟨_, h⟩)) (by omega) (Nat.le_of_ble_eq_true rfl) (fun v5 μ5 k5 n5 hk5 hn5 hQ5 => ?_)
          obtain ⟨α5, hR5, x1, c5, x2, x3⟩ := hQ5
          cases x1
          subst x2
          refine b_goto (tgt := 146) dX3_take_129 (by decide) ?_
          refine b_aret dX3_take_146 rfl (Or.inr ⟨_, rfl⟩) ?_
          unfold gP at x3
          subst q1
          have hW5 : WK (aset α4 ca (oP ([] ++ [(p, lo)]) c5)) (wput w 3 dp (ca, c5)) dp := by
            have := hW4.upd (α' := aset α4 ca (oP ([] ++ [(p, lo)]) c5)) (kd := 3) (j := dp) (a := ca) (c := cc) (c' := c5) (by omega) wput_s ⟨_, aset_s⟩ (show 4 ≤ c5 by omega) (show c5 ≤ 800 by omega) (fun x o' hx ho => (aset_n hx).trans ho)
            rw [wput2] at this
            exact this
          refine one p _ ca c5 k5 n5 ((aset_n nrp).trans (by rw [q2]; exact y6)) ((aset_n y8.symm).trans y7) aset_s (by omega) (by omega) hrp.symm nrp y8 (Or.inl ⟨rfl, rfl, q2⟩) hW5 (y11 c5) y12 (fun x o' hx h1' h2' => ?_) (pgk _ (fun y o' hy1 hy2 => (aset_n hy2).trans hy1)) (domk _ (fun y o' hy1 hy2 => (aset_n hy2).trans hy1) ⟨_, aset_s⟩) ?_ (by omega) _ hR5
          · have hxra : x ≠ ra := fun e => h1' (by rw [hown, if_pos rfl, e, q2]; simp)
            obtain ⟨v1, v2⟩ := y9 x o' hx hxra h2'
            exact (aset_n v2).trans v1
          · rw [if_pos rfl]
            subst q4
            omega
    -- the letters
    have lp : ∀ (f j cj : Nat) (Rj : Prs) (μc : Mem) (kc nc : Nat), ms.length - j < f → j ≤ ms.length → Rep (aset αa ra (oR Rj cj)) μc → srt Rj → (∀ x, lkp Rj x = effs ((ms.take j).map (·.2)) x (lkp row x)) → Rj.length ≤ row.length + puts (ms.take j) → gR c0 k0 n0 cj kc nc (max 8 (row.length + puts ms)) →
        bB g l M3_take d Q 72 [(0, .ref p), (1, .ref La), (2, .int now), (3, .int lo), (5, .ref w.1), (6, .int (nI dp)), (7, .ref ra), (8, .int (nI j))] [] μc kc nc := by
      intro f
      induction f with
      | zero => intro j cj Rj μc kc nc h; omega
      | succ f ihf =>
        intro j cj Rj μc kc nc hf hj hRc hsj hlj hlenj hg
        have hLaj : aset αa ra (oR Rj cj) La = some (oL (ms.map (·.1)) cL) := (aset_n hLara).trans hLaa
        obtain ⟨r9, rs, m2, m3, e1, hle, hcap, ht⟩ := hRc.let hLaj
        rw [List.length_map] at m2 hle ht
        have hcap' : cL ≤ 1000000 := hcap
        have hraj : aset αa ra (oR Rj cj) ra = some (oR Rj cj) := aset_s
        obtain ⟨kr, vr, kk, vs, f1, -⟩ := hRc.row hraj
        have hg0 := hg.1
        unfold gR0 at hg0
        have hpj := pw_16 (hg.2 hpw)
        refine b_iload dX3_take_72 rfl ?_
        first | refine b_aload_n dX3_take_74 rfl ?_ | refine b_aload_nN dX3_take_74 rfl ?_
        refine b_getf dX3_take_75 f3_56 (by first | assumption | exact mset_s | exact Rep.raw (by assumption) (by assumption) | (refine (mset_n (by first | assumption | exact Ne.symm (by assumption) | exact ne_fr (by assumption) (by assumption) | exact Ne.symm (ne_fr (by assumption) (by assumption)))).trans ?_; first | assumption | exact mset_s | exact Rep.raw (by assumption) (by assumption) | (refine (mset_n (by first | assumption | exact Ne.symm (by assumption) | exact ne_fr (by assumption) (by assumption) | exact Ne.symm (ne_fr (by assumption) (by assumption)))).trans ?_; first | assumption | exact mset_s | exact Rep.raw (by assumption) (by assumption) | (refine (mset_n (by first | assumption | exact Ne.symm (by assumption) | exact ne_fr (by assumption) (by assumption) | exact Ne.symm (ne_fr (by assumption) (by assumption)))).trans ?_; first | assumption | exact mset_s | exact Rep.raw (by assumption) (by assumption) | (refine (mset_n (by first | assumption | exact Ne.symm (by assumption) | exact ne_fr (by assumption) (by assumption) | exact Ne.symm (ne_fr (by assumption) (by assumption)))).trans ?_; first | assumption | exact mset_s | exact Rep.raw (by assumption) (by assumption) | (refine (mset_n (by first | assumption | exact Ne.symm (by assumption) | exact ne_fr (by assumption) (by assumption) | exact Ne.symm (ne_fr (by assumption) (by assumption)))).trans ?_; first | assumption | exact mset_s | exact Rep.raw (by assumption) (by assumption) | (refine (mset_n (by first | assumption | exact Ne.symm (by assumption) | exact ne_fr (by assumption) (by assumption) | exact Ne.symm (ne_fr (by assumption) (by assumption)))).trans ?_; first | assumption | exact mset_s | exact Rep.raw (by assumption) (by assumption) | (refine (mset_n (by first | assumption | exact Ne.symm (by assumption) | exact ne_fr (by assumption) (by assumption) | exact Ne.symm (ne_fr (by assumption) (by assumption)))).trans ?_; assumption)))))))) rfl ?_
        refine b_icmp_ge (tgt := 99) dX3_take_78 (by decide) (fun h78 => ?_) (fun h78 => ?_)
        · rw [nI_leI (by omega) (by omega)] at h78
          have e : j = ms.length := by omega
          subst e
          rw [List.take_length] at hlj hlenj
          exact bB.locs rfl (aft Rj cj μc kc nc hRc hsj hlj hlenj hg)
        · rw [nI_leI (by omega) (by omega)] at h78
          obtain ⟨q, hq⟩ := at_of (l := ms) (j := j) (by omega)
          have hqm := List.mem_of_getElem? hq
          have hq1 : rs[j]? = some (some q.1) := by
            have : (rs.take ms.length)[j]? = some (some q.1) := by rw [ht, List.getElem?_map, List.getElem?_map, hq]; rfl
            rwa [List.getElem?_take, if_pos (by omega)] at this
          have hix : ix rs (nI j) = some (some q.1) := by rw [ix_n (by omega)]; exact hq1
          have hqa : αa q.1 = some (oW (mC q.2)) := hext _ _ (hmq q hqm)
          have hqb : aset αa ra (oR Rj cj) q.1 = some (oW (mC q.2)) := (aset_n (fun e => by rw [e, hra] at hqa; cases hqa)).trans hqa
          obtain ⟨okq, -, -⟩ := hls q hqm
          have hps : puts (ms.take (j + 1)) = puts (ms.take j) + (if isR q.2 = true then 0 else 1) := by rw [take_snoc hq, puts_snoc]
          have hpl := puts_take (ls := ms) (j := j + 1)
          have hml := mApp_le (r := Rj) okq.1
          obtain ⟨s1, s2⟩ := mApp_ok hsj okq.1 okq.2
          first | refine b_aload dX3_take_81 rfl ?_ | refine b_aloadN dX3_take_81 rfl ?_
          first | refine b_aload_n dX3_take_83 rfl ?_ | refine b_aload_nN dX3_take_83 rfl ?_
          refine b_getf dX3_take_84 f3_59 (by first | assumption | exact mset_s | exact Rep.raw (by assumption) (by assumption) | (refine (mset_n (by first | assumption | exact Ne.symm (by assumption) | exact ne_fr (by assumption) (by assumption) | exact Ne.symm (ne_fr (by assumption) (by assumption)))).trans ?_; first | assumption | exact mset_s | exact Rep.raw (by assumption) (by assumption) | (refine (mset_n (by first | assumption | exact Ne.symm (by assumption) | exact ne_fr (by assumption) (by assumption) | exact Ne.symm (ne_fr (by assumption) (by assumption)))).trans ?_; first | assumption | exact mset_s | exact Rep.raw (by assumption) (by assumption) | (refine (mset_n (by first | assumption | exact Ne.symm (by assumption) | exact ne_fr (by assumption) (by assumption) | exact Ne.symm (ne_fr (by assumption) (by assumption)))).trans ?_; first | assumption | exact mset_s | exact Rep.raw (by assumption) (by assumption) | (refine (mset_n (by first | assumption | exact Ne.symm (by assumption) | exact ne_fr (by assumption) (by assumption) | exact Ne.symm (ne_fr (by assumption) (by assumption)))).trans ?_; first | assumption | exact mset_s | exact Rep.raw (by assumption) (by assumption) | (refine (mset_n (by first | assumption | exact Ne.symm (by assumption) | exact ne_fr (by assumption) (by assumption) | exact Ne.symm (ne_fr (by assumption) (by assumption)))).trans ?_; first | assumption | exact mset_s | exact Rep.raw (by assumption) (by assumption) | (refine (mset_n (by first | assumption | exact Ne.symm (by assumption) | exact ne_fr (by assumption) (by assumption) | exact Ne.symm (ne_fr (by assumption) (by assumption)))).trans ?_; first | assumption | exact mset_s | exact Rep.raw (by assumption) (by assumption) | (refine (mset_n (by first | assumption | exact Ne.symm (by assumption) | exact ne_fr (by assumption) (by assumption) | exact Ne.symm (ne_fr (by assumption) (by assumption)))).trans ?_; assumption)))))))) rfl ?_
          refine b_iload dX3_take_87 rfl ?_
          refine b_aald dX3_take_89 (by first | assumption | exact mset_s | exact Rep.raw (by assumption) (by assumption) | (refine (mset_n (by first | assumption | exact Ne.symm (by assumption) | exact ne_fr (by assumption) (by assumption) | exact Ne.symm (ne_fr (by assumption) (by assumption)))).trans ?_; first | assumption | exact mset_s | exact Rep.raw (by assumption) (by assumption) | (refine (mset_n (by first | assumption | exact Ne.symm (by assumption) | exact ne_fr (by assumption) (by assumption) | exact Ne.symm (ne_fr (by assumption) (by assumption)))).trans ?_; first | assumption | exact mset_s | exact Rep.raw (by assumption) (by assumption) | (refine (mset_n (by first | assumption | exact Ne.symm (by assumption) | exact ne_fr (by assumption) (by assumption) | exact Ne.symm (ne_fr (by assumption) (by assumption)))).trans ?_; first | assumption | exact mset_s | exact Rep.raw (by assumption) (by assumption) | (refine (mset_n (by first | assumption | exact Ne.symm (by assumption) | exact ne_fr (by assumption) (by assumption) | exact Ne.symm (ne_fr (by assumption) (by assumption)))).trans ?_; first | assumption | exact mset_s | exact Rep.raw (by assumption) (by assumption) | (refine (mset_n (by first | assumption | exact Ne.symm (by assumption) | exact ne_fr (by assumption) (by assumption) | exact Ne.symm (ne_fr (by assumption) (by assumption)))).trans ?_; first | assumption | exact mset_s | exact Rep.raw (by assumption) (by assumption) | (refine (mset_n (by first | assumption | exact Ne.symm (by assumption) | exact ne_fr (by assumption) (by assumption) | exact Ne.symm (ne_fr (by assumption) (by assumption)))).trans ?_; first | assumption | exact mset_s | exact Rep.raw (by assumption) (by assumption) | (refine (mset_n (by first | assumption | exact Ne.symm (by assumption) | exact ne_fr (by assumption) (by assumption) | exact Ne.symm (ne_fr (by assumption) (by assumption)))).trans ?_; assumption)))))))) (by decide) (by first | assumption | exact ix_D (by first | assumption | omega) (by first | assumption | omega)) ?_
          refine b_call (As := [.ref ra, .ref q.1]) (rest := []) s3_62 dX3_take_90 rfl rfl (fun ci hci => by cases hci; exact ⟨_, _, _, rfl, by first | assumption | exact mset_s | exact Rep.raw (by assumption) (by assumption) | (refine (mset_n (by first | assumption | exact Ne.symm (by assumption) | exact ne_fr (by assumption) (by assumption) | exact Ne.symm (ne_fr (by assumption) (by assumption)))).trans ?_; first | assumption | exact mset_s | exact Rep.raw (by assumption) (by assumption) | (refine (mset_n (by first | assumption | exact Ne.symm (by assumption) | exact ne_fr (by assumption) (by assumption) | exact Ne.symm (ne_fr (by assumption) (by assumption)))).trans ?_; first | assumption | exact mset_s | exact Rep.raw (by assumption) (by assumption) | (refine (mset_n (by first | assumption | exact Ne.symm (by assumption) | exact ne_fr (by assumption) (by assumption) | exact Ne.symm (ne_fr (by assumption) (by assumption)))).trans ?_; first | assumption | exact mset_s | exact Rep.raw (by assumption) (by assumption) | (refine (mset_n (by first | assumption | exact Ne.symm (by assumption) | exact ne_fr (by assumption) (by assumption) | exact Ne.symm (ne_fr (by assumption) (by assumption)))).trans ?_; first | assumption | exact mset_s | exact Rep.raw (by assumption) (by assumption) | (refine (mset_n (by first | assumption | exact Ne.symm (by assumption) | exact ne_fr (by assumption) (by assumption) | exact Ne.symm (ne_fr (by assumption) (by assumption)))).trans ?_; first | assumption | exact mset_s | exact Rep.raw (by assumption) (by assumption) | (refine (mset_n (by first | assumption | exact Ne.symm (by assumption) | exact ne_fr (by assumption) (by assumption) | exact Ne.symm (ne_fr (by assumption) (by assumption)))).trans ?_; first | assumption | exact mset_s | exact Rep.raw (by assumption) (by assumption) | (refine (mset_n (by first | assumption | exact Ne.symm (by assumption) | exact ne_fr (by assumption) (by assumption) | exact Ne.symm (ne_fr (by assumption) (by assumption)))).trans ?_; assumption)))))))⟩) (sp_take' (d := d - 1) hraj hqb hsj okq.1 (N := max 8 (row.length + puts ms)) (by omega) (by omega) hpj (by omega) (by omega) (by omega) (by omega) _ hRc) (by first | (rintro _ _ _ _ ⟨h, -⟩; exact ⟨_, h⟩) | (rintro _ _ _ _ ⟨_, h, -⟩; exact ⟨_, h⟩) | (rintro _ _ _ _ ⟨_, _, h, -⟩; exact ⟨_, h⟩) | (rintro _ _ _ _ ⟨_, _, _, h, -⟩; exact ⟨_, h⟩) | (rintro _ _ _ _ ⟨_, _, _, _, h, -⟩; exact ⟨_, h⟩)) (by omega) (Nat.le_of_ble_eq_true rfl) (fun v1 μ1 k1 n1 hk1 hn1 hQ1 => ?_)
          obtain ⟨α1, hR1, z1, c', z2, z3⟩ := hQ1
          cases z1
          rw [aset2] at z2
          subst z2
          first | refine b_iincN dX3_take_93 rfl (by decide) ?_ | refine b_iinc1 dX3_take_93 rfl (by decide) ?_
          refine b_goto (tgt := 72) dX3_take_96 (by decide) ?_
          refine bB.locs rfl (ihf (j + 1) c' (mApp q.2 Rj) _ _ _ (by omega) (by omega) hR1 s1 (fun x => ?_) (by omega) (hg.tr z3))
          rw [s2 x, hlj x, take_snoc hq, List.map_append]
          exact effs_snoc.symm
    refine b_iconst (v := 0) dX3_take_69 (by decide) ?_
    refine b_istore dX3_take_70 (by decide) ?_
    refine bB.locs rfl (lp (ms.length + 1) 0 c0 row _ _ _ (by omega) (by omega) (by rw [aset_id hra]; exact hRa) w1 (fun x => by rw [List.take_zero]; rfl) (by rw [List.take_zero]; exact Nat.le_add_right _ _) gR.rf)
  -- the start
  show Ms g l d k n M3_take _ μ Q
  have m1 := hR.raw hTp
  obtain ⟨kr, vr, kk, vs, f1, f2, f3, f4, f5, f6, f7, f8, f9⟩ := hR.row hTr
  have hcap : c ≤ 1000000 := f7
  refine Ms.of (M := M3_take) rfl rfl (Nat.le_of_ble_eq_true rfl) ?_
  first | refine b_aload_n dX3_take_0 rfl ?_ | refine b_aload_nN dX3_take_0 rfl ?_
  refine b_getf dX3_take_1 f3_9 (by first | assumption | exact mset_s | exact Rep.raw (by assumption) (by assumption) | (refine (mset_n (by first | assumption | exact Ne.symm (by assumption) | exact ne_fr (by assumption) (by assumption) | exact Ne.symm (ne_fr (by assumption) (by assumption)))).trans ?_; first | assumption | exact mset_s | exact Rep.raw (by assumption) (by assumption) | (refine (mset_n (by first | assumption | exact Ne.symm (by assumption) | exact ne_fr (by assumption) (by assumption) | exact Ne.symm (ne_fr (by assumption) (by assumption)))).trans ?_; first | assumption | exact mset_s | exact Rep.raw (by assumption) (by assumption) | (refine (mset_n (by first | assumption | exact Ne.symm (by assumption) | exact ne_fr (by assumption) (by assumption) | exact Ne.symm (ne_fr (by assumption) (by assumption)))).trans ?_; first | assumption | exact mset_s | exact Rep.raw (by assumption) (by assumption) | (refine (mset_n (by first | assumption | exact Ne.symm (by assumption) | exact ne_fr (by assumption) (by assumption) | exact Ne.symm (ne_fr (by assumption) (by assumption)))).trans ?_; first | assumption | exact mset_s | exact Rep.raw (by assumption) (by assumption) | (refine (mset_n (by first | assumption | exact Ne.symm (by assumption) | exact ne_fr (by assumption) (by assumption) | exact Ne.symm (ne_fr (by assumption) (by assumption)))).trans ?_; first | assumption | exact mset_s | exact Rep.raw (by assumption) (by assumption) | (refine (mset_n (by first | assumption | exact Ne.symm (by assumption) | exact ne_fr (by assumption) (by assumption) | exact Ne.symm (ne_fr (by assumption) (by assumption)))).trans ?_; first | assumption | exact mset_s | exact Rep.raw (by assumption) (by assumption) | (refine (mset_n (by first | assumption | exact Ne.symm (by assumption) | exact ne_fr (by assumption) (by assumption) | exact Ne.symm (ne_fr (by assumption) (by assumption)))).trans ?_; assumption)))))))) rfl ?_
  first | refine b_astore dX3_take_4 (by decide) ?_ | refine b_astoreN dX3_take_4 (by decide) ?_
  first | refine b_aload_n dX3_take_6 rfl ?_ | refine b_aload_nN dX3_take_6 rfl ?_
  refine b_getf dX3_take_7 f3_50 (by first | assumption | exact mset_s | exact Rep.raw (by assumption) (by assumption) | (refine (mset_n (by first | assumption | exact Ne.symm (by assumption) | exact ne_fr (by assumption) (by assumption) | exact Ne.symm (ne_fr (by assumption) (by assumption)))).trans ?_; first | assumption | exact mset_s | exact Rep.raw (by assumption) (by assumption) | (refine (mset_n (by first | assumption | exact Ne.symm (by assumption) | exact ne_fr (by assumption) (by assumption) | exact Ne.symm (ne_fr (by assumption) (by assumption)))).trans ?_; first | assumption | exact mset_s | exact Rep.raw (by assumption) (by assumption) | (refine (mset_n (by first | assumption | exact Ne.symm (by assumption) | exact ne_fr (by assumption) (by assumption) | exact Ne.symm (ne_fr (by assumption) (by assumption)))).trans ?_; first | assumption | exact mset_s | exact Rep.raw (by assumption) (by assumption) | (refine (mset_n (by first | assumption | exact Ne.symm (by assumption) | exact ne_fr (by assumption) (by assumption) | exact Ne.symm (ne_fr (by assumption) (by assumption)))).trans ?_; first | assumption | exact mset_s | exact Rep.raw (by assumption) (by assumption) | (refine (mset_n (by first | assumption | exact Ne.symm (by assumption) | exact ne_fr (by assumption) (by assumption) | exact Ne.symm (ne_fr (by assumption) (by assumption)))).trans ?_; first | assumption | exact mset_s | exact Rep.raw (by assumption) (by assumption) | (refine (mset_n (by first | assumption | exact Ne.symm (by assumption) | exact ne_fr (by assumption) (by assumption) | exact Ne.symm (ne_fr (by assumption) (by assumption)))).trans ?_; first | assumption | exact mset_s | exact Rep.raw (by assumption) (by assumption) | (refine (mset_n (by first | assumption | exact Ne.symm (by assumption) | exact ne_fr (by assumption) (by assumption) | exact Ne.symm (ne_fr (by assumption) (by assumption)))).trans ?_; assumption)))))))) rfl ?_
  refine b_iload_n dX3_take_10 rfl ?_
  refine b_icmp_eq (tgt := 69) dX3_take_11 (by decide) (fun h11 => ?_) (fun h11 => ?_)
  · have hrw : ¬ wFp w dp r := how r (by rw [hown, if_pos h11]; simp)
    have hrp : r ≠ p := fun e => by rw [e, hTp] at hTr; cases hTr
    exact bB.locs rfl (cont r c α μ k n hR hTr w4 w5 hTp (fun x o h => h) (fun x o h _ => h) hW hrw hrp hkn (Or.inl ⟨h11, rfl, rfl, rfl⟩))
  · rw [if_neg h11] at hn
    refine b_new dX3_take_14 n3_16 (by omega) (by omega) (fun a14 ha14 => ?_)
    refine b_dup dX3_take_17 rfl ?_
    have hn0 := hR.non ha14
    refine b_call (As := [.ref a14]) (rest := [.ref a14]) s3_53 dX3_take_18 rfl rfl (fun ci hci => by cases hci; exact ⟨_, _, _, rfl, by first | assumption | exact mset_s | exact Rep.raw (by assumption) (by assumption) | (refine (mset_n (by first | assumption | exact Ne.symm (by assumption) | exact ne_fr (by assumption) (by assumption) | exact Ne.symm (ne_fr (by assumption) (by assumption)))).trans ?_; first | assumption | exact mset_s | exact Rep.raw (by assumption) (by assumption) | (refine (mset_n (by first | assumption | exact Ne.symm (by assumption) | exact ne_fr (by assumption) (by assumption) | exact Ne.symm (ne_fr (by assumption) (by assumption)))).trans ?_; first | assumption | exact mset_s | exact Rep.raw (by assumption) (by assumption) | (refine (mset_n (by first | assumption | exact Ne.symm (by assumption) | exact ne_fr (by assumption) (by assumption) | exact Ne.symm (ne_fr (by assumption) (by assumption)))).trans ?_; first | assumption | exact mset_s | exact Rep.raw (by assumption) (by assumption) | (refine (mset_n (by first | assumption | exact Ne.symm (by assumption) | exact ne_fr (by assumption) (by assumption) | exact Ne.symm (ne_fr (by assumption) (by assumption)))).trans ?_; first | assumption | exact mset_s | exact Rep.raw (by assumption) (by assumption) | (refine (mset_n (by first | assumption | exact Ne.symm (by assumption) | exact ne_fr (by assumption) (by assumption) | exact Ne.symm (ne_fr (by assumption) (by assumption)))).trans ?_; first | assumption | exact mset_s | exact Rep.raw (by assumption) (by assumption) | (refine (mset_n (by first | assumption | exact Ne.symm (by assumption) | exact ne_fr (by assumption) (by assumption) | exact Ne.symm (ne_fr (by assumption) (by assumption)))).trans ?_; first | assumption | exact mset_s | exact Rep.raw (by assumption) (by assumption) | (refine (mset_n (by first | assumption | exact Ne.symm (by assumption) | exact ne_fr (by assumption) (by assumption) | exact Ne.symm (ne_fr (by assumption) (by assumption)))).trans ?_; assumption)))))))⟩) (sp_rowInit (d := 1) aset_s (by omega) (by omega) (by omega) _ (hR.new ha14 _)) (by first | (rintro _ _ _ _ ⟨h, -⟩; exact ⟨_, h⟩) | (rintro _ _ _ _ ⟨_, h, -⟩; exact ⟨_, h⟩) | (rintro _ _ _ _ ⟨_, _, h, -⟩; exact ⟨_, h⟩) | (rintro _ _ _ _ ⟨_, _, _, h, -⟩; exact ⟨_, h⟩) | (rintro _ _ _ _ ⟨_, _, _, _, h, -⟩; exact ⟨_, h⟩)) (by omega) (Nat.le_of_ble_eq_true rfl) (fun v1 μ1 k1 n1 hk1 hn1 hQ1 => ?_)
    obtain ⟨α1, hR1, z1, z2, z3, z4⟩ := hQ1
    cases z1
    rw [aset2] at z2
    subst z2
    first | refine b_astore dX3_take_21 (by decide) ?_ | refine b_astoreN dX3_take_21 (by decide) ?_
    refine b_iconst (v := 0) dX3_take_23 (by decide) ?_
    refine b_istore dX3_take_24 (by decide) ?_
    have hap : a14 ≠ p := fun e => by rw [e, hTp] at hn0; cases hn0
    have har : a14 ≠ r := fun e => by rw [e, hTr] at hn0; cases hn0
    have cp : ∀ (f j : Nat) (μc : Mem) (kc nc : Nat), row.length - j < f → j ≤ row.length → Rep (aset α a14 (oR (row.take j) 16)) μc → kc = k - 3 → nc = n - 35 →
        bB g l M3_take d Q 26 [(0, .ref p), (1, .ref La), (2, .int now), (3, .int lo), (5, .ref w.1), (6, .int (nI dp)), (7, .ref a14), (8, .int (nI j))] [] μc kc nc := by
      intro f
      induction f with
      | zero => intro j μc kc nc h; omega
      | succ f ihf =>
        intro j μc kc nc hf hj hRc ek en
        have e1 : aset α a14 (oR (row.take j) 16) p = some (oW (cO 3 [.int o, .ref r])) := (aset_n hap.symm).trans hTp
        have e2 : aset α a14 (oR (row.take j) 16) r = some (oR row c) := (aset_n har.symm).trans hTr
        have m1' := hRc.raw e1
        obtain ⟨kr2, vr2, kk2, vs2, q1, q2, q3, q4, q5, q6, q7, q8, q9⟩ := hRc.row e2
        obtain ⟨kr3, vr3, kk3, vs3, p1, -⟩ := hRc.row (α := aset α a14 (oR (row.take j) 16)) aset_s
        have hl2 : (row.take j).length = j := by simp; omega
        refine b_iload dX3_take_26 rfl ?_
        first | refine b_aload_n dX3_take_28 rfl ?_ | refine b_aload_nN dX3_take_28 rfl ?_
        refine b_getf dX3_take_29 f3_9 (by first | assumption | exact mset_s | exact Rep.raw (by assumption) (by assumption) | (refine (mset_n (by first | assumption | exact Ne.symm (by assumption) | exact ne_fr (by assumption) (by assumption) | exact Ne.symm (ne_fr (by assumption) (by assumption)))).trans ?_; first | assumption | exact mset_s | exact Rep.raw (by assumption) (by assumption) | (refine (mset_n (by first | assumption | exact Ne.symm (by assumption) | exact ne_fr (by assumption) (by assumption) | exact Ne.symm (ne_fr (by assumption) (by assumption)))).trans ?_; first | assumption | exact mset_s | exact Rep.raw (by assumption) (by assumption) | (refine (mset_n (by first | assumption | exact Ne.symm (by assumption) | exact ne_fr (by assumption) (by assumption) | exact Ne.symm (ne_fr (by assumption) (by assumption)))).trans ?_; first | assumption | exact mset_s | exact Rep.raw (by assumption) (by assumption) | (refine (mset_n (by first | assumption | exact Ne.symm (by assumption) | exact ne_fr (by assumption) (by assumption) | exact Ne.symm (ne_fr (by assumption) (by assumption)))).trans ?_; first | assumption | exact mset_s | exact Rep.raw (by assumption) (by assumption) | (refine (mset_n (by first | assumption | exact Ne.symm (by assumption) | exact ne_fr (by assumption) (by assumption) | exact Ne.symm (ne_fr (by assumption) (by assumption)))).trans ?_; first | assumption | exact mset_s | exact Rep.raw (by assumption) (by assumption) | (refine (mset_n (by first | assumption | exact Ne.symm (by assumption) | exact ne_fr (by assumption) (by assumption) | exact Ne.symm (ne_fr (by assumption) (by assumption)))).trans ?_; first | assumption | exact mset_s | exact Rep.raw (by assumption) (by assumption) | (refine (mset_n (by first | assumption | exact Ne.symm (by assumption) | exact ne_fr (by assumption) (by assumption) | exact Ne.symm (ne_fr (by assumption) (by assumption)))).trans ?_; assumption)))))))) rfl ?_
        refine b_getf dX3_take_32 f3_36 (by first | assumption | exact mset_s | exact Rep.raw (by assumption) (by assumption) | (refine (mset_n (by first | assumption | exact Ne.symm (by assumption) | exact ne_fr (by assumption) (by assumption) | exact Ne.symm (ne_fr (by assumption) (by assumption)))).trans ?_; first | assumption | exact mset_s | exact Rep.raw (by assumption) (by assumption) | (refine (mset_n (by first | assumption | exact Ne.symm (by assumption) | exact ne_fr (by assumption) (by assumption) | exact Ne.symm (ne_fr (by assumption) (by assumption)))).trans ?_; first | assumption | exact mset_s | exact Rep.raw (by assumption) (by assumption) | (refine (mset_n (by first | assumption | exact Ne.symm (by assumption) | exact ne_fr (by assumption) (by assumption) | exact Ne.symm (ne_fr (by assumption) (by assumption)))).trans ?_; first | assumption | exact mset_s | exact Rep.raw (by assumption) (by assumption) | (refine (mset_n (by first | assumption | exact Ne.symm (by assumption) | exact ne_fr (by assumption) (by assumption) | exact Ne.symm (ne_fr (by assumption) (by assumption)))).trans ?_; first | assumption | exact mset_s | exact Rep.raw (by assumption) (by assumption) | (refine (mset_n (by first | assumption | exact Ne.symm (by assumption) | exact ne_fr (by assumption) (by assumption) | exact Ne.symm (ne_fr (by assumption) (by assumption)))).trans ?_; first | assumption | exact mset_s | exact Rep.raw (by assumption) (by assumption) | (refine (mset_n (by first | assumption | exact Ne.symm (by assumption) | exact ne_fr (by assumption) (by assumption) | exact Ne.symm (ne_fr (by assumption) (by assumption)))).trans ?_; first | assumption | exact mset_s | exact Rep.raw (by assumption) (by assumption) | (refine (mset_n (by first | assumption | exact Ne.symm (by assumption) | exact ne_fr (by assumption) (by assumption) | exact Ne.symm (ne_fr (by assumption) (by assumption)))).trans ?_; assumption)))))))) rfl ?_
        refine b_icmp_ge (tgt := 69) dX3_take_35 (by decide) (fun h35 => ?_) (fun h35 => ?_)
        · rw [nI_leI (by omega) (by omega)] at h35
          have e : j = row.length := by omega
          subst e
          rw [List.take_length] at hRc
          have hW1 : WK (aset α a14 (oR row 16)) w dp := hW.frame (fun x o' _ hx => (aset_n (fun e => by rw [e, hn0] at hx; cases hx)).trans hx)
          refine bB.locs rfl (cont a14 16 (aset α a14 (oR row 16)) μc kc nc hRc aset_s ⟨0, rfl⟩ (by decide) ((aset_n hap.symm).trans hTp) (fun x o' hx => (aset_n (fun e => by rw [e, hn0] at hx; cases hx)).trans hx) (fun x o' hx hne => by rw [aset_n hne] at hx; exact hx) hW1 (fun hf => ?_) hap (by omega) (Or.inr ⟨h11, hn0, rfl, by omega, by omega⟩))
          obtain ⟨o', ho', -⟩ := hW.dom hf
          rw [hn0] at ho'; cases ho'
        · rw [nI_leI (by omega) (by omega)] at h35
          obtain ⟨q, hq⟩ := at_of (l := row) (j := j) (by omega)
          have hk := get_of_take q8 hq
          have hv := get_of_take q9 hq
          have hix : ix kk2 (nI j) = some q.1 := by rw [ix_n (by omega)]; exact hk
          have hiy : ix vs2 (nI j) = some q.2 := by rw [ix_n (by omega)]; exact hv
          have hgr : ∀ x, grK (row.take j).length 16 x = 0 := fun x => by unfold grK; rw [if_neg (by omega)]
          first | refine b_aload dX3_take_38 rfl ?_ | refine b_aloadN dX3_take_38 rfl ?_
          first | refine b_aload_n dX3_take_40 rfl ?_ | refine b_aload_nN dX3_take_40 rfl ?_
          refine b_getf dX3_take_41 f3_9 (by first | assumption | exact mset_s | exact Rep.raw (by assumption) (by assumption) | (refine (mset_n (by first | assumption | exact Ne.symm (by assumption) | exact ne_fr (by assumption) (by assumption) | exact Ne.symm (ne_fr (by assumption) (by assumption)))).trans ?_; first | assumption | exact mset_s | exact Rep.raw (by assumption) (by assumption) | (refine (mset_n (by first | assumption | exact Ne.symm (by assumption) | exact ne_fr (by assumption) (by assumption) | exact Ne.symm (ne_fr (by assumption) (by assumption)))).trans ?_; first | assumption | exact mset_s | exact Rep.raw (by assumption) (by assumption) | (refine (mset_n (by first | assumption | exact Ne.symm (by assumption) | exact ne_fr (by assumption) (by assumption) | exact Ne.symm (ne_fr (by assumption) (by assumption)))).trans ?_; first | assumption | exact mset_s | exact Rep.raw (by assumption) (by assumption) | (refine (mset_n (by first | assumption | exact Ne.symm (by assumption) | exact ne_fr (by assumption) (by assumption) | exact Ne.symm (ne_fr (by assumption) (by assumption)))).trans ?_; first | assumption | exact mset_s | exact Rep.raw (by assumption) (by assumption) | (refine (mset_n (by first | assumption | exact Ne.symm (by assumption) | exact ne_fr (by assumption) (by assumption) | exact Ne.symm (ne_fr (by assumption) (by assumption)))).trans ?_; first | assumption | exact mset_s | exact Rep.raw (by assumption) (by assumption) | (refine (mset_n (by first | assumption | exact Ne.symm (by assumption) | exact ne_fr (by assumption) (by assumption) | exact Ne.symm (ne_fr (by assumption) (by assumption)))).trans ?_; first | assumption | exact mset_s | exact Rep.raw (by assumption) (by assumption) | (refine (mset_n (by first | assumption | exact Ne.symm (by assumption) | exact ne_fr (by assumption) (by assumption) | exact Ne.symm (ne_fr (by assumption) (by assumption)))).trans ?_; assumption)))))))) rfl ?_
          refine b_getf dX3_take_44 f3_24 (by first | assumption | exact mset_s | exact Rep.raw (by assumption) (by assumption) | (refine (mset_n (by first | assumption | exact Ne.symm (by assumption) | exact ne_fr (by assumption) (by assumption) | exact Ne.symm (ne_fr (by assumption) (by assumption)))).trans ?_; first | assumption | exact mset_s | exact Rep.raw (by assumption) (by assumption) | (refine (mset_n (by first | assumption | exact Ne.symm (by assumption) | exact ne_fr (by assumption) (by assumption) | exact Ne.symm (ne_fr (by assumption) (by assumption)))).trans ?_; first | assumption | exact mset_s | exact Rep.raw (by assumption) (by assumption) | (refine (mset_n (by first | assumption | exact Ne.symm (by assumption) | exact ne_fr (by assumption) (by assumption) | exact Ne.symm (ne_fr (by assumption) (by assumption)))).trans ?_; first | assumption | exact mset_s | exact Rep.raw (by assumption) (by assumption) | (refine (mset_n (by first | assumption | exact Ne.symm (by assumption) | exact ne_fr (by assumption) (by assumption) | exact Ne.symm (ne_fr (by assumption) (by assumption)))).trans ?_; first | assumption | exact mset_s | exact Rep.raw (by assumption) (by assumption) | (refine (mset_n (by first | assumption | exact Ne.symm (by assumption) | exact ne_fr (by assumption) (by assumption) | exact Ne.symm (ne_fr (by assumption) (by assumption)))).trans ?_; first | assumption | exact mset_s | exact Rep.raw (by assumption) (by assumption) | (refine (mset_n (by first | assumption | exact Ne.symm (by assumption) | exact ne_fr (by assumption) (by assumption) | exact Ne.symm (ne_fr (by assumption) (by assumption)))).trans ?_; first | assumption | exact mset_s | exact Rep.raw (by assumption) (by assumption) | (refine (mset_n (by first | assumption | exact Ne.symm (by assumption) | exact ne_fr (by assumption) (by assumption) | exact Ne.symm (ne_fr (by assumption) (by assumption)))).trans ?_; assumption)))))))) rfl ?_
          refine b_iload dX3_take_47 rfl ?_
          refine b_iald dX3_take_49 (by first | assumption | exact mset_s | exact Rep.raw (by assumption) (by assumption) | (refine (mset_n (by first | assumption | exact Ne.symm (by assumption) | exact ne_fr (by assumption) (by assumption) | exact Ne.symm (ne_fr (by assumption) (by assumption)))).trans ?_; first | assumption | exact mset_s | exact Rep.raw (by assumption) (by assumption) | (refine (mset_n (by first | assumption | exact Ne.symm (by assumption) | exact ne_fr (by assumption) (by assumption) | exact Ne.symm (ne_fr (by assumption) (by assumption)))).trans ?_; first | assumption | exact mset_s | exact Rep.raw (by assumption) (by assumption) | (refine (mset_n (by first | assumption | exact Ne.symm (by assumption) | exact ne_fr (by assumption) (by assumption) | exact Ne.symm (ne_fr (by assumption) (by assumption)))).trans ?_; first | assumption | exact mset_s | exact Rep.raw (by assumption) (by assumption) | (refine (mset_n (by first | assumption | exact Ne.symm (by assumption) | exact ne_fr (by assumption) (by assumption) | exact Ne.symm (ne_fr (by assumption) (by assumption)))).trans ?_; first | assumption | exact mset_s | exact Rep.raw (by assumption) (by assumption) | (refine (mset_n (by first | assumption | exact Ne.symm (by assumption) | exact ne_fr (by assumption) (by assumption) | exact Ne.symm (ne_fr (by assumption) (by assumption)))).trans ?_; first | assumption | exact mset_s | exact Rep.raw (by assumption) (by assumption) | (refine (mset_n (by first | assumption | exact Ne.symm (by assumption) | exact ne_fr (by assumption) (by assumption) | exact Ne.symm (ne_fr (by assumption) (by assumption)))).trans ?_; first | assumption | exact mset_s | exact Rep.raw (by assumption) (by assumption) | (refine (mset_n (by first | assumption | exact Ne.symm (by assumption) | exact ne_fr (by assumption) (by assumption) | exact Ne.symm (ne_fr (by assumption) (by assumption)))).trans ?_; assumption)))))))) (by first | assumption | exact ix_D (by first | assumption | omega) (by first | assumption | omega)) ?_
          first | refine b_aload_n dX3_take_50 rfl ?_ | refine b_aload_nN dX3_take_50 rfl ?_
          refine b_getf dX3_take_51 f3_9 (by first | assumption | exact mset_s | exact Rep.raw (by assumption) (by assumption) | (refine (mset_n (by first | assumption | exact Ne.symm (by assumption) | exact ne_fr (by assumption) (by assumption) | exact Ne.symm (ne_fr (by assumption) (by assumption)))).trans ?_; first | assumption | exact mset_s | exact Rep.raw (by assumption) (by assumption) | (refine (mset_n (by first | assumption | exact Ne.symm (by assumption) | exact ne_fr (by assumption) (by assumption) | exact Ne.symm (ne_fr (by assumption) (by assumption)))).trans ?_; first | assumption | exact mset_s | exact Rep.raw (by assumption) (by assumption) | (refine (mset_n (by first | assumption | exact Ne.symm (by assumption) | exact ne_fr (by assumption) (by assumption) | exact Ne.symm (ne_fr (by assumption) (by assumption)))).trans ?_; first | assumption | exact mset_s | exact Rep.raw (by assumption) (by assumption) | (refine (mset_n (by first | assumption | exact Ne.symm (by assumption) | exact ne_fr (by assumption) (by assumption) | exact Ne.symm (ne_fr (by assumption) (by assumption)))).trans ?_; first | assumption | exact mset_s | exact Rep.raw (by assumption) (by assumption) | (refine (mset_n (by first | assumption | exact Ne.symm (by assumption) | exact ne_fr (by assumption) (by assumption) | exact Ne.symm (ne_fr (by assumption) (by assumption)))).trans ?_; first | assumption | exact mset_s | exact Rep.raw (by assumption) (by assumption) | (refine (mset_n (by first | assumption | exact Ne.symm (by assumption) | exact ne_fr (by assumption) (by assumption) | exact Ne.symm (ne_fr (by assumption) (by assumption)))).trans ?_; first | assumption | exact mset_s | exact Rep.raw (by assumption) (by assumption) | (refine (mset_n (by first | assumption | exact Ne.symm (by assumption) | exact ne_fr (by assumption) (by assumption) | exact Ne.symm (ne_fr (by assumption) (by assumption)))).trans ?_; assumption)))))))) rfl ?_
          refine b_getf dX3_take_54 f3_28 (by first | assumption | exact mset_s | exact Rep.raw (by assumption) (by assumption) | (refine (mset_n (by first | assumption | exact Ne.symm (by assumption) | exact ne_fr (by assumption) (by assumption) | exact Ne.symm (ne_fr (by assumption) (by assumption)))).trans ?_; first | assumption | exact mset_s | exact Rep.raw (by assumption) (by assumption) | (refine (mset_n (by first | assumption | exact Ne.symm (by assumption) | exact ne_fr (by assumption) (by assumption) | exact Ne.symm (ne_fr (by assumption) (by assumption)))).trans ?_; first | assumption | exact mset_s | exact Rep.raw (by assumption) (by assumption) | (refine (mset_n (by first | assumption | exact Ne.symm (by assumption) | exact ne_fr (by assumption) (by assumption) | exact Ne.symm (ne_fr (by assumption) (by assumption)))).trans ?_; first | assumption | exact mset_s | exact Rep.raw (by assumption) (by assumption) | (refine (mset_n (by first | assumption | exact Ne.symm (by assumption) | exact ne_fr (by assumption) (by assumption) | exact Ne.symm (ne_fr (by assumption) (by assumption)))).trans ?_; first | assumption | exact mset_s | exact Rep.raw (by assumption) (by assumption) | (refine (mset_n (by first | assumption | exact Ne.symm (by assumption) | exact ne_fr (by assumption) (by assumption) | exact Ne.symm (ne_fr (by assumption) (by assumption)))).trans ?_; first | assumption | exact mset_s | exact Rep.raw (by assumption) (by assumption) | (refine (mset_n (by first | assumption | exact Ne.symm (by assumption) | exact ne_fr (by assumption) (by assumption) | exact Ne.symm (ne_fr (by assumption) (by assumption)))).trans ?_; first | assumption | exact mset_s | exact Rep.raw (by assumption) (by assumption) | (refine (mset_n (by first | assumption | exact Ne.symm (by assumption) | exact ne_fr (by assumption) (by assumption) | exact Ne.symm (ne_fr (by assumption) (by assumption)))).trans ?_; assumption)))))))) rfl ?_
          refine b_iload dX3_take_57 rfl ?_
          refine b_lald dX3_take_59 (by first | assumption | exact mset_s | exact Rep.raw (by assumption) (by assumption) | (refine (mset_n (by first | assumption | exact Ne.symm (by assumption) | exact ne_fr (by assumption) (by assumption) | exact Ne.symm (ne_fr (by assumption) (by assumption)))).trans ?_; first | assumption | exact mset_s | exact Rep.raw (by assumption) (by assumption) | (refine (mset_n (by first | assumption | exact Ne.symm (by assumption) | exact ne_fr (by assumption) (by assumption) | exact Ne.symm (ne_fr (by assumption) (by assumption)))).trans ?_; first | assumption | exact mset_s | exact Rep.raw (by assumption) (by assumption) | (refine (mset_n (by first | assumption | exact Ne.symm (by assumption) | exact ne_fr (by assumption) (by assumption) | exact Ne.symm (ne_fr (by assumption) (by assumption)))).trans ?_; first | assumption | exact mset_s | exact Rep.raw (by assumption) (by assumption) | (refine (mset_n (by first | assumption | exact Ne.symm (by assumption) | exact ne_fr (by assumption) (by assumption) | exact Ne.symm (ne_fr (by assumption) (by assumption)))).trans ?_; first | assumption | exact mset_s | exact Rep.raw (by assumption) (by assumption) | (refine (mset_n (by first | assumption | exact Ne.symm (by assumption) | exact ne_fr (by assumption) (by assumption) | exact Ne.symm (ne_fr (by assumption) (by assumption)))).trans ?_; first | assumption | exact mset_s | exact Rep.raw (by assumption) (by assumption) | (refine (mset_n (by first | assumption | exact Ne.symm (by assumption) | exact ne_fr (by assumption) (by assumption) | exact Ne.symm (ne_fr (by assumption) (by assumption)))).trans ?_; first | assumption | exact mset_s | exact Rep.raw (by assumption) (by assumption) | (refine (mset_n (by first | assumption | exact Ne.symm (by assumption) | exact ne_fr (by assumption) (by assumption) | exact Ne.symm (ne_fr (by assumption) (by assumption)))).trans ?_; assumption)))))))) (by first | assumption | exact ix_D (by first | assumption | omega) (by first | assumption | omega)) ?_
          refine b_call (As := [.ref a14, .int q.1, .long q.2]) (rest := []) s3_32 dX3_take_60 rfl rfl (fun ci hci => by cases hci; exact ⟨_, _, _, rfl, by first | assumption | exact mset_s | exact Rep.raw (by assumption) (by assumption) | (refine (mset_n (by first | assumption | exact Ne.symm (by assumption) | exact ne_fr (by assumption) (by assumption) | exact Ne.symm (ne_fr (by assumption) (by assumption)))).trans ?_; first | assumption | exact mset_s | exact Rep.raw (by assumption) (by assumption) | (refine (mset_n (by first | assumption | exact Ne.symm (by assumption) | exact ne_fr (by assumption) (by assumption) | exact Ne.symm (ne_fr (by assumption) (by assumption)))).trans ?_; first | assumption | exact mset_s | exact Rep.raw (by assumption) (by assumption) | (refine (mset_n (by first | assumption | exact Ne.symm (by assumption) | exact ne_fr (by assumption) (by assumption) | exact Ne.symm (ne_fr (by assumption) (by assumption)))).trans ?_; first | assumption | exact mset_s | exact Rep.raw (by assumption) (by assumption) | (refine (mset_n (by first | assumption | exact Ne.symm (by assumption) | exact ne_fr (by assumption) (by assumption) | exact Ne.symm (ne_fr (by assumption) (by assumption)))).trans ?_; first | assumption | exact mset_s | exact Rep.raw (by assumption) (by assumption) | (refine (mset_n (by first | assumption | exact Ne.symm (by assumption) | exact ne_fr (by assumption) (by assumption) | exact Ne.symm (ne_fr (by assumption) (by assumption)))).trans ?_; first | assumption | exact mset_s | exact Rep.raw (by assumption) (by assumption) | (refine (mset_n (by first | assumption | exact Ne.symm (by assumption) | exact ne_fr (by assumption) (by assumption) | exact Ne.symm (ne_fr (by assumption) (by assumption)))).trans ?_; first | assumption | exact mset_s | exact Rep.raw (by assumption) (by assumption) | (refine (mset_n (by first | assumption | exact Ne.symm (by assumption) | exact ne_fr (by assumption) (by assumption) | exact Ne.symm (ne_fr (by assumption) (by assumption)))).trans ?_; assumption)))))))⟩) (sp_add (d := 1) aset_s (by omega) (by decide) (by rw [hgr]; omega) (by rw [hgr]; omega) (by omega) _ hRc) (by first | (rintro _ _ _ _ ⟨h, -⟩; exact ⟨_, h⟩) | (rintro _ _ _ _ ⟨_, h, -⟩; exact ⟨_, h⟩) | (rintro _ _ _ _ ⟨_, _, h, -⟩; exact ⟨_, h⟩) | (rintro _ _ _ _ ⟨_, _, _, h, -⟩; exact ⟨_, h⟩) | (rintro _ _ _ _ ⟨_, _, _, _, h, -⟩; exact ⟨_, h⟩)) (by omega) (Nat.le_of_ble_eq_true rfl) (fun v5 μ5 k5 n5 hk5 hn5 hQ5 => ?_)
          obtain ⟨α5, hR5, x1, x2, x3, x4⟩ := hQ5
          cases x1
          rw [hgr] at x3 x4
          have hgc : grC (row.take j).length 16 = 16 := by unfold grC; rw [if_neg (by omega)]
          have e3 : row.take j ++ [(q.1, q.2)] = row.take (j + 1) := (take_snoc hq).symm
          rw [aset2, hgc, e3] at x2
          subst x2
          first | refine b_iincN dX3_take_63 rfl (by decide) ?_ | refine b_iinc1 dX3_take_63 rfl (by decide) ?_
          refine b_goto (tgt := 26) dX3_take_66 (by decide) ?_
          exact bB.locs rfl (ihf (j + 1) _ _ _ (by omega) (by omega) hR5 (by omega) (by omega))
    exact bB.locs rfl (cp (row.length + 1) 0 _ _ _ (by omega) (by omega) (by rw [List.take_zero]; exact hR1) (by omega) (by omega))
end LTK
