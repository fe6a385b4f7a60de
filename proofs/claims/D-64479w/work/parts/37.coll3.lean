/-! Inner.collect -/
set_option maxRecDepth 100000
section CL3
variable {g : Cx} {l : Launch}
theorem Wr_congr {w w' : WS} : ∀ {h d : Nat}, (∀ j, d ≤ j → w'.2.2 0 j = w.2.2 0 j) → Wr w' h d = Wr w h d := by
  intro h
  induction h with
  | zero => intro d _; rfl
  | succ h ih =>
    intro d hj
    show psiK 0 (w'.2.2 0 d) + Wr w' h (d + 1) = psiK 0 (w.2.2 0 d) + Wr w h (d + 1)
    rw [hj d (Nat.le_refl _), ih (fun j h => hj j (by omega))]
theorem psi0 {a c : Nat} : psiK 0 (some (a, c)) = 20480 - 4 * c := rfl
theorem col_node {h : Nat} (ih : ColS g l h) : ColS g l (h + 1) := by
  intro d k n α t lo hi a b to rt ct w dp hT hw hab hto hc1 hc2 hlen hW hdp hnt hnw hsep hn hkn hd μ hR
  obtain ⟨⟨p, cp, cl⟩, o, ks, ls, c1, c2⟩ := t
  have hT0 := hT
  obtain ⟨t1, t2, t3, t4, t5⟩ := hT
  obtain ⟨w1, w2, w3, w4, w5, w6, w7, w8, w9, w10⟩ := hw
  have hlen : rt.length + (ksum (fun c : Kid h => wt h c.2.2) ks + puts ls) ≤ 2560 := hlen
  have hn : (20480 - 4 * ct) + (psiK 0 (w.2.2 0 dp) + Wr w h (dp + 1)) + 4 * (ls.length + ksum (fun c : Kid h => nLt h c.2.2) ks) ≤ n := hn
  generalize hQ : (fun (o' : Outcome) (μ' : Mem) (k' n' : Nat) => ∃ α', Rep α' μ' ∧ ∃ (r : Prs) (ct' : Nat), o' = .returned none ∧ ∃ w', α' to = some (oR (rt ++ r) ct') ∧ 16 ≤ ct' ∧ ct' ≤ 5120 ∧ isRng (den (h + 1) ((p, cp, cl), o, ks, ls, c1, c2)) a b r ∧ r.length ≤ wt (h + 1) ((p, cp, cl), o, ks, ls, c1, c2) ∧ WK α' w' dp ∧ wSm α w w' is0 dp ∧ (∀ x o, α x = some o → x ≠ to → ¬ wFp w dp x → α' x = some o) ∧
    n + (20480 - 4 * ct') + Wr w' (h + 1) dp ≤ n' + (20480 - 4 * ct) + Wr w (h + 1) dp + 4 * nLt (h + 1) ((p, cp, cl), o, ks, ls, c1, c2) ∧ n' ≤ 4 * k') = Q
  show Ms g l d k n M11_collect [.ref p, .int a, .int b, .ref to, .ref w.1, .int (nI dp)] μ Q
  have mW := hW.flds hR
  refine Ms.of (M := M11_collect) rfl rfl (Nat.le_of_ble_eq_true rfl) ?_
  first | refine b_aload dX11_collect_0 rfl ?_ | refine b_aloadN dX11_collect_0 rfl ?_
  refine b_iload dX11_collect_2 rfl ?_
  refine b_call (As := [.ref w.1, .int (nI dp)]) (rest := []) s11_19 dX11_collect_4 rfl rfl (fun ci hci => by cases hci; exact ⟨_, _, _, rfl, by first | assumption | exact mset_s | exact Rep.raw (by assumption) (by assumption) | (refine (mset_n (by first | assumption | exact Ne.symm (by assumption) | exact ne_fr (by assumption) (by assumption) | exact Ne.symm (ne_fr (by assumption) (by assumption)))).trans ?_; first | assumption | exact mset_s | exact Rep.raw (by assumption) (by assumption) | (refine (mset_n (by first | assumption | exact Ne.symm (by assumption) | exact ne_fr (by assumption) (by assumption) | exact Ne.symm (ne_fr (by assumption) (by assumption)))).trans ?_; first | assumption | exact mset_s | exact Rep.raw (by assumption) (by assumption) | (refine (mset_n (by first | assumption | exact Ne.symm (by assumption) | exact ne_fr (by assumption) (by assumption) | exact Ne.symm (ne_fr (by assumption) (by assumption)))).trans ?_; first | assumption | exact mset_s | exact Rep.raw (by assumption) (by assumption) | (refine (mset_n (by first | assumption | exact Ne.symm (by assumption) | exact ne_fr (by assumption) (by assumption) | exact Ne.symm (ne_fr (by assumption) (by assumption)))).trans ?_; first | assumption | exact mset_s | exact Rep.raw (by assumption) (by assumption) | (refine (mset_n (by first | assumption | exact Ne.symm (by assumption) | exact ne_fr (by assumption) (by assumption) | exact Ne.symm (ne_fr (by assumption) (by assumption)))).trans ?_; first | assumption | exact mset_s | exact Rep.raw (by assumption) (by assumption) | (refine (mset_n (by first | assumption | exact Ne.symm (by assumption) | exact ne_fr (by assumption) (by assumption) | exact Ne.symm (ne_fr (by assumption) (by assumption)))).trans ?_; first | assumption | exact mset_s | exact Rep.raw (by assumption) (by assumption) | (refine (mset_n (by first | assumption | exact Ne.symm (by assumption) | exact ne_fr (by assumption) (by assumption) | exact Ne.symm (ne_fr (by assumption) (by assumption)))).trans ?_; assumption)))))))⟩) (sp_at (d := d - 1) hW (Nat.le_refl _) (by omega) (by omega) hkn (by omega) μ hR) (by first | (rintro _ _ _ _ ⟨h, -⟩; exact ⟨_, h⟩) | (rintro _ _ _ _ ⟨_, h, -⟩; exact ⟨_, h⟩) | (rintro _ _ _ _ ⟨_, _, h, -⟩; exact ⟨_, h⟩) | (rintro _ _ _ _ ⟨_, _, _, h, -⟩; exact ⟨_, h⟩) | (rintro _ _ _ _ ⟨_, _, _, _, h, -⟩; exact ⟨_, h⟩)) (by omega) (Nat.le_of_ble_eq_true rfl) (fun v1 μ1 k1 n1 hk1 hn1 hQ1 => ?_)
  obtain ⟨α0, hR0, ra, c0, z1, hgot⟩ := hQ1
  cases z1
  have hgot0 := hgot
  obtain ⟨g1, g2, g3, g4, g5, g6, g7, g8, g9⟩ := hgot
  have g1 : α0 ra = some (oR [] c0) := g1
  have g7 : 16 ≤ c0 := g7
  have g8 : c0 ≤ 5120 := g8
  rw [psi0] at g5
  have hra := hgot0.in (by omega) (Nat.le_refl _)
  have hsm0 := hgot0.sm (ks := is0) rfl (Nat.le_refl _)
  have hdom0 := hgot0.dom (by omega)
  generalize hw0 : wput w 0 dp (ra, c0) = w0 at g2 hsm0
  have hent : w0.2.2 0 dp = some (ra, c0) := by rw [← hw0]; exact wput_s
  have hWr0 : Wr w0 h (dp + 1) = Wr w h (dp + 1) := Wr_congr (fun j hj => by rw [← hw0]; exact wput_n (fun e => by omega))
  have hw01 : w0.1 = w.1 := by rw [← hw0]; rfl
  have nto : to ≠ ra := by
    intro e
    rcases hra with h | h
    · exact hnw (e ▸ h)
    · rw [← e, hto] at h; cases h
  have nall : ∀ x ∈ allT (h + 1) ((p, cp, cl), o, ks, ls, c1, c2), x ≠ ra ∧ ∀ kd, kd < 4 → x ≠ w.2.1 kd := by
    intro x hx
    refine ⟨fun e => ?_, fun kd hk e => hsep x hx (Or.inl ⟨kd, hk, e⟩)⟩
    rcases hra with h' | h'
    · exact hsep x hx (e ▸ h')
    · obtain ⟨o', ho', -⟩ := Th.all_at _ _ hT0 x hx
      rw [e, h'] at ho'
      cases ho'
  have hmsg0 : ∀ x m, α x = some (oW (mC m)) → α0 x = some (oW (mC m)) := by
    intro x m hx
    refine g3 x _ hx (fun e => ?_) (fun e => ?_)
    · rcases hra with h' | h'
      · rcases h' with ⟨kd, hk, e'⟩ | ⟨kd, j, c, hk, hj, e'⟩
        · rw [e, e', hW.2.1 kd hk] at hx; cases hx
        · obtain ⟨c', hc'⟩ := (hW.2.2.1 kd j ra c hk e').1
          obtain ⟨o', ho', hne⟩ := hc'.some
          rw [e, ho'] at hx
          exact hne _ (Option.some.inj hx)
      · rw [e, h'] at hx; cases hx
    · rw [e, hW.2.1 0 (by omega)] at hx; cases hx
  have hT1 : Th α0 (h + 1) ((p, cp, cl), o, ks, ls, c1, c2) := Th.keptT _ _ hT0 (fun x o' hx ho => g3 x o' ho (nall x hx).1 ((nall x hx).2 0 (by omega))) hmsg0
  have hto0 : α0 to = some (oR rt ct) := g3 to _ hto nto (fun e => hnw (Or.inl ⟨0, by omega, e⟩))
  have hnd : ¬ wFp w0 (dp + 1) ra := g2.notdeep (by omega) hent (by omega)
  have hsep0 : ∀ x ∈ allT (h + 1) ((p, cp, cl), o, ks, ls, c1, c2), ¬ wFp w0 (dp + 1) x := by
    intro x hx hf
    rcases hsm0.fp hf with h' | h'
    · refine hsep x hx ?_
      rcases h' with h' | ⟨kd, j, c, hk, hj, e⟩
      · exact Or.inl h'
      · exact Or.inr ⟨kd, j, c, hk, by omega, e⟩
    · obtain ⟨o', ho', -⟩ := Th.all_at _ _ hT0 x hx
      rw [h'] at ho'
      cases ho'
  have hnto0 : ¬ wFp w0 (dp + 1) to := by
    intro hf
    rcases hsm0.fp hf with h' | h'
    · refine hnw ?_
      rcases h' with h' | ⟨kd, j, c, hk, hj, e⟩
      · exact Or.inl h'
      · exact Or.inr ⟨kd, j, c, hk, by omega, e⟩
    · rw [hto] at h'; cases h'
  -- the last loop: own row to the other
  have lp3 : ∀ (R : Prs) (cR : Nat) (α2 : AM) (w2' : WS) (k2 n2 : Nat), α2 ra = some (oR R cR) → 16 ≤ cR → cR ≤ 5120 → α2 to = some (oR rt ct) → WK α2 w2' (dp + 1) → wSm α0 w0 w2' is0 (dp + 1) → (∀ x o, α0 x = some o → x ≠ ra → ¬ wFp w0 (dp + 1) x → α2 x = some o) → isRng (den (h + 1) ((p, cp, cl), o, ks, ls, c1, c2)) a b R → R.length ≤ ksum (fun c : Kid h => wt h c.2.2) ks + puts ls → n2 ≤ 4 * k2 → (20480 - 4 * ct) ≤ n2 →
      n + (20480 - 4 * cR) + Wr w2' h (dp + 1) ≤ n2 + (psiK 0 (w.2.2 0 dp) + Wr w h (dp + 1)) + 4 * (ls.length + ksum (fun c : Kid h => nLt h c.2.2) ks) →
      ∀ (f j cj : Nat) (μc : Mem) (kc nc : Nat), R.length - j < f → j ≤ R.length → Rep (aset α2 to (oR (rt ++ R.take j) cj)) μc → 16 ≤ cj → cj ≤ 5120 → gR ct k2 n2 cj kc nc 2560 →
      bB g l M11_collect d Q 144 [(3, .ref to), (6, .ref ra), (7, .int (nI j))] [] μc kc nc := by
    intro R cR α2 w2' k2 n2 e1 e2 e3 e4 hW2 hsm2 hfr2 hrng hRl hkn2 hn2 hbud f
    induction f with
    | zero => intro j cj μc kc nc h; omega
    | succ f ihf =>
      intro j cj μc kc nc hf hj hRc hcj hcj2 hg
      have e5 : aset α2 to (oR (rt ++ R.take j) cj) ra = some (oR R cR) := (aset_n nto.symm).trans e1
      obtain ⟨kr, vr, ks', vs, h1, h2, h3, h4, h5, h6, h7, h8, h9⟩ := hRc.row e5
      have hcap : cR ≤ 1000000 := h7
      obtain ⟨kr', vr', ks'', vs', mto, -⟩ := hRc.row (α := aset α2 to (oR (rt ++ R.take j) cj)) aset_s
      have hg0 := hg.1
      unfold gR0 at hg0
      refine b_iload dX11_collect_144 rfl ?_
      first | refine b_aload dX11_collect_146 rfl ?_ | refine b_aloadN dX11_collect_146 rfl ?_
      refine b_getf dX11_collect_148 f11_71 (by first | assumption | exact mset_s | exact Rep.raw (by assumption) (by assumption) | (refine (mset_n (by first | assumption | exact Ne.symm (by assumption) | exact ne_fr (by assumption) (by assumption) | exact Ne.symm (ne_fr (by assumption) (by assumption)))).trans ?_; first | assumption | exact mset_s | exact Rep.raw (by assumption) (by assumption) | (refine (mset_n (by first | assumption | exact Ne.symm (by assumption) | exact ne_fr (by assumption) (by assumption) | exact Ne.symm (ne_fr (by assumption) (by assumption)))).trans ?_; first | assumption | exact mset_s | exact Rep.raw (by assumption) (by assumption) | (refine (mset_n (by first | assumption | exact Ne.symm (by assumption) | exact ne_fr (by assumption) (by assumption) | exact Ne.symm (ne_fr (by assumption) (by assumption)))).trans ?_; first | assumption | exact mset_s | exact Rep.raw (by assumption) (by assumption) | (refine (mset_n (by first | assumption | exact Ne.symm (by assumption) | exact ne_fr (by assumption) (by assumption) | exact Ne.symm (ne_fr (by assumption) (by assumption)))).trans ?_; first | assumption | exact mset_s | exact Rep.raw (by assumption) (by assumption) | (refine (mset_n (by first | assumption | exact Ne.symm (by assumption) | exact ne_fr (by assumption) (by assumption) | exact Ne.symm (ne_fr (by assumption) (by assumption)))).trans ?_; first | assumption | exact mset_s | exact Rep.raw (by assumption) (by assumption) | (refine (mset_n (by first | assumption | exact Ne.symm (by assumption) | exact ne_fr (by assumption) (by assumption) | exact Ne.symm (ne_fr (by assumption) (by assumption)))).trans ?_; first | assumption | exact mset_s | exact Rep.raw (by assumption) (by assumption) | (refine (mset_n (by first | assumption | exact Ne.symm (by assumption) | exact ne_fr (by assumption) (by assumption) | exact Ne.symm (ne_fr (by assumption) (by assumption)))).trans ?_; assumption)))))))) rfl ?_
      refine b_icmp_ge (tgt := 180) dX11_collect_151 (by decide) (fun h151 => ?_) (fun h151 => ?_)
      · rw [nI_leI (by omega) (by omega)] at h151
        have e : j = R.length := by omega
        subst e
        rw [List.take_length] at hRc
        rw [List.take_length] at e5
        refine b_vret dX11_collect_180 rfl ?_
        subst hQ
        have hnto2 : ¬ wFp w2' (dp + 1) to := by
          intro hf
          rcases hsm2.fp hf with h' | h'
          · exact hnto0 h'
          · rw [hto0] at h'; cases h'
        have hW3 : WK (aset α2 to (oR (rt ++ R) cj)) w2' (dp + 1) := hW2.chg e4 aset_s hnto2 (fun x o hx ho => (aset_n hx).trans ho)
        have hent2 : w2'.2.2 0 dp = some (ra, c0) := by rw [hsm2.2.2.1 0 dp (Or.inr (by omega))]; exact hent
        have hW4 : WK (aset α2 to (oR (rt ++ R) cj)) (wput w2' 0 dp (ra, cR)) (dp + 1) := hW3.recap (by omega) hent2 (by omega)
        have hfr : ∀ x o, α x = some o → x ≠ to → ¬ wFp w dp x → aset α2 to (oR (rt ++ R) cj) x = some o := by
          intro x o' hx hxt hxf
          rw [aset_n hxt]
          have hxra : x ≠ ra := fun e => by
            rcases hra with h' | h'
            · exact hxf (e ▸ h')
            · rw [e, h'] at hx; cases hx
          refine hfr2 x o' (g3 x o' hx hxra (fun e => hxf (Or.inl ⟨0, by omega, e⟩))) hxra (fun hf => ?_)
          rcases hsm0.fp hf with h' | h'
          · refine hxf ?_
            rcases h' with h' | ⟨kd, j, c, hk, hj, e⟩
            · exact Or.inl h'
            · exact Or.inr ⟨kd, j, c, hk, by omega, e⟩
          · rw [hx] at h'; cases h'
        have hsmF : wSm α w (wput w2' 0 dp (ra, cR)) is0 dp := by
          have hq := hsm0.tr (hsm2.deep (Nat.le_succ dp)) hdom0
          obtain ⟨y1, y2, y3, y4, y5⟩ := hq
          refine ⟨y1, y2, fun kd j q => ?_, fun kd j a' c' q => ?_, fun kd j a' c' q q0 => ?_⟩
          · rw [wput_n (fun e => by rcases q with q | q; exact q e.1; omega)]
            exact y3 kd j q
          · by_cases e : kd = 0 ∧ j = dp
            · obtain ⟨rfl, rfl⟩ := e
              obtain ⟨c9, q9⟩ := y4 0 j a' c' q
              rw [hent2] at q9
              cases q9
              exact ⟨_, wput_s⟩
            · rw [wput_n e]
              exact y4 kd j a' c' q
          · by_cases e : kd = 0 ∧ j = dp
            · obtain ⟨rfl, rfl⟩ := e
              rw [wput_s] at q
              cases q
              exact y5 0 j ra c0 hent2 q0
            · rw [wput_n e] at q
              exact y5 kd j a' c' q q0
        refine ⟨_, hRc, R, cj, rfl, wput w2' 0 dp (ra, cR), aset_s, hcj, hcj2, hrng, hRl, hW4.shal (fun kd j a' c' hk hd1 hd2 he => ?_), hsmF, hfr, ?_, by omega⟩
        · have hjd : j = dp := by omega
          subst hjd
          by_cases e0 : kd = 0
          · subst e0
            rw [wput_s] at he
            cases he
            exact ⟨⟨R, e5⟩, e2, e3⟩
          · rw [wput_n (fun e => e0 e.1), hsm2.2.2.1 kd j (Or.inl e0), hsm0.2.2.1 kd j (Or.inl e0)] at he
            obtain ⟨q1, q2⟩ := (hW.2.2.1 kd j a' c' hk he).2 (Nat.le_refl _)
            refine ⟨?_, q2⟩
            have na : a' ≠ to := fun e => hnw (Or.inr ⟨kd, j, c', hk, Nat.le_refl _, e ▸ he⟩)
            have nb : a' ≠ ra := fun e => by
              rcases g4 with h' | h'
              · exact e0 ((hW.2.2.2.1 kd j 0 j a' c' c0 hk (by omega) he (e ▸ h')).1)
              · obtain ⟨o', ho', -⟩ := q1.some
                rw [e, h'.2] at ho'
                cases ho'
            have nc9 : a' ≠ w.2.1 0 := (hW.arr_ne hk (show 0 < 4 by omega) he).1
            refine q1.kept (fun o' ho' => ?_)
            rw [aset_n na]
            refine hfr2 a' o' (g3 a' o' ho' nb nc9) nb ?_
            have he0 : w0.2.2 kd j = some (a', c') := by rw [hsm0.2.2.1 kd j (Or.inl e0)]; exact he
            exact g2.notdeep hk he0 (by omega)
        · show n + (20480 - 4 * cj) + (psiK 0 ((wput w2' 0 dp (ra, cR)).2.2 0 dp) + Wr (wput w2' 0 dp (ra, cR)) h (dp + 1)) ≤ nc + (20480 - 4 * ct) + (psiK 0 (w.2.2 0 dp) + Wr w h (dp + 1)) + 4 * (ls.length + ksum (fun c : Kid h => nLt h c.2.2) ks)
          rw [wput_s, psi0, Wr_congr (w' := wput w2' 0 dp (ra, cR)) (w := w2') (fun j hj => wput_n (fun e => by omega))]
          omega
      · rw [nI_leI (by omega) (by omega)] at h151
        obtain ⟨q, hq⟩ := at_of (l := R) (j := j) (by omega)
        have hk := get_of_take h8 hq
        have hv := get_of_take h9 hq
        have hix : ix ks' (nI j) = some q.1 := by rw [ix_n (by omega)]; exact hk
        have hiy : ix vs (nI j) = some q.2 := by rw [ix_n (by omega)]; exact hv
        have hl2 : (rt ++ R.take j).length = rt.length + j := by simp; omega
        first | refine b_aload_n dX11_collect_154 rfl ?_ | refine b_aload_nN dX11_collect_154 rfl ?_
        first | refine b_aload dX11_collect_155 rfl ?_ | refine b_aloadN dX11_collect_155 rfl ?_
        refine b_getf dX11_collect_157 f11_72 (by first | assumption | exact mset_s | exact Rep.raw (by assumption) (by assumption) | (refine (mset_n (by first | assumption | exact Ne.symm (by assumption) | exact ne_fr (by assumption) (by assumption) | exact Ne.symm (ne_fr (by assumption) (by assumption)))).trans ?_; first | assumption | exact mset_s | exact Rep.raw (by assumption) (by assumption) | (refine (mset_n (by first | assumption | exact Ne.symm (by assumption) | exact ne_fr (by assumption) (by assumption) | exact Ne.symm (ne_fr (by assumption) (by assumption)))).trans ?_; first | assumption | exact mset_s | exact Rep.raw (by assumption) (by assumption) | (refine (mset_n (by first | assumption | exact Ne.symm (by assumption) | exact ne_fr (by assumption) (by assumption) | exact Ne.symm (ne_fr (by assumption) (by assumption)))).trans ?_; first | assumption | exact mset_s | exact Rep.raw (by assumption) (by assumption) | (refine (mset_n (by first | assumption | exact Ne.symm (by assumption) | exact ne_fr (by assumption) (by assumption) | exact Ne.symm (ne_fr (by assumption) (by assumption)))).trans ?_; first | assumption | exact mset_s | exact Rep.raw (by assumption) (by assumption) | (refine (mset_n (by first | assumption | exact Ne.symm (by assumption) | exact ne_fr (by assumption) (by assumption) | exact Ne.symm (ne_fr (by assumption) (by assumption)))).trans ?_; first | assumption | exact mset_s | exact Rep.raw (by assumption) (by assumption) | (refine (mset_n (by first | assumption | exact Ne.symm (by assumption) | exact ne_fr (by assumption) (by assumption) | exact Ne.symm (ne_fr (by assumption) (by assumption)))).trans ?_; first | assumption | exact mset_s | exact Rep.raw (by assumption) (by assumption) | (refine (mset_n (by first | assumption | exact Ne.symm (by assumption) | exact ne_fr (by assumption) (by assumption) | exact Ne.symm (ne_fr (by assumption) (by assumption)))).trans ?_; assumption)))))))) rfl ?_
        refine b_iload dX11_collect_160 rfl ?_
        refine b_iald dX11_collect_162 (by first | assumption | exact mset_s | exact Rep.raw (by assumption) (by assumption) | (refine (mset_n (by first | assumption | exact Ne.symm (by assumption) | exact ne_fr (by assumption) (by assumption) | exact Ne.symm (ne_fr (by assumption) (by assumption)))).trans ?_; first | assumption | exact mset_s | exact Rep.raw (by assumption) (by assumption) | (refine (mset_n (by first | assumption | exact Ne.symm (by assumption) | exact ne_fr (by assumption) (by assumption) | exact Ne.symm (ne_fr (by assumption) (by assumption)))).trans ?_; first | assumption | exact mset_s | exact Rep.raw (by assumption) (by assumption) | (refine (mset_n (by first | assumption | exact Ne.symm (by assumption) | exact ne_fr (by assumption) (by assumption) | exact Ne.symm (ne_fr (by assumption) (by assumption)))).trans ?_; first | assumption | exact mset_s | exact Rep.raw (by assumption) (by assumption) | (refine (mset_n (by first | assumption | exact Ne.symm (by assumption) | exact ne_fr (by assumption) (by assumption) | exact Ne.symm (ne_fr (by assumption) (by assumption)))).trans ?_; first | assumption | exact mset_s | exact Rep.raw (by assumption) (by assumption) | (refine (mset_n (by first | assumption | exact Ne.symm (by assumption) | exact ne_fr (by assumption) (by assumption) | exact Ne.symm (ne_fr (by assumption) (by assumption)))).trans ?_; first | assumption | exact mset_s | exact Rep.raw (by assumption) (by assumption) | (refine (mset_n (by first | assumption | exact Ne.symm (by assumption) | exact ne_fr (by assumption) (by assumption) | exact Ne.symm (ne_fr (by assumption) (by assumption)))).trans ?_; first | assumption | exact mset_s | exact Rep.raw (by assumption) (by assumption) | (refine (mset_n (by first | assumption | exact Ne.symm (by assumption) | exact ne_fr (by assumption) (by assumption) | exact Ne.symm (ne_fr (by assumption) (by assumption)))).trans ?_; assumption)))))))) (by first | assumption | exact ix_D (by first | assumption | omega) (by first | assumption | omega)) ?_
        first | refine b_aload dX11_collect_163 rfl ?_ | refine b_aloadN dX11_collect_163 rfl ?_
        refine b_getf dX11_collect_165 f11_75 (by first | assumption | exact mset_s | exact Rep.raw (by assumption) (by assumption) | (refine (mset_n (by first | assumption | exact Ne.symm (by assumption) | exact ne_fr (by assumption) (by assumption) | exact Ne.symm (ne_fr (by assumption) (by assumption)))).trans ?_; first | assumption | exact mset_s | exact Rep.raw (by assumption) (by assumption) | (refine (mset_n (by first | assumption | exact Ne.symm (by assumption) | exact ne_fr (by assumption) (by assumption) | exact Ne.symm (ne_fr (by assumption) (by assumption)))).trans ?_; first | assumption | exact mset_s | exact Rep.raw (by assumption) (by assumption) | (refine (mset_n (by first | assumption | exact Ne.symm (by assumption) | exact ne_fr (by assumption) (by assumption) | exact Ne.symm (ne_fr (by assumption) (by assumption)))).trans ?_; first | assumption | exact mset_s | exact Rep.raw (by assumption) (by assumption) | (refine (mset_n (by first | assumption | exact Ne.symm (by assumption) | exact ne_fr (by assumption) (by assumption) | exact Ne.symm (ne_fr (by assumption) (by assumption)))).trans ?_; first | assumption | exact mset_s | exact Rep.raw (by assumption) (by assumption) | (refine (mset_n (by first | assumption | exact Ne.symm (by assumption) | exact ne_fr (by assumption) (by assumption) | exact Ne.symm (ne_fr (by assumption) (by assumption)))).trans ?_; first | assumption | exact mset_s | exact Rep.raw (by assumption) (by assumption) | (refine (mset_n (by first | assumption | exact Ne.symm (by assumption) | exact ne_fr (by assumption) (by assumption) | exact Ne.symm (ne_fr (by assumption) (by assumption)))).trans ?_; first | assumption | exact mset_s | exact Rep.raw (by assumption) (by assumption) | (refine (mset_n (by first | assumption | exact Ne.symm (by assumption) | exact ne_fr (by assumption) (by assumption) | exact Ne.symm (ne_fr (by assumption) (by assumption)))).trans ?_; assumption)))))))) rfl ?_
        refine b_iload dX11_collect_168 rfl ?_
        refine b_lald dX11_collect_170 (by first | assumption | exact mset_s | exact Rep.raw (by assumption) (by assumption) | (refine (mset_n (by first | assumption | exact Ne.symm (by assumption) | exact ne_fr (by assumption) (by assumption) | exact Ne.symm (ne_fr (by assumption) (by assumption)))).trans ?_; first | assumption | exact mset_s | exact Rep.raw (by assumption) (by assumption) | (refine (mset_n (by first | assumption | exact Ne.symm (by assumption) | exact ne_fr (by assumption) (by assumption) | exact Ne.symm (ne_fr (by assumption) (by assumption)))).trans ?_; first | assumption | exact mset_s | exact Rep.raw (by assumption) (by assumption) | (refine (mset_n (by first | assumption | exact Ne.symm (by assumption) | exact ne_fr (by assumption) (by assumption) | exact Ne.symm (ne_fr (by assumption) (by assumption)))).trans ?_; first | assumption | exact mset_s | exact Rep.raw (by assumption) (by assumption) | (refine (mset_n (by first | assumption | exact Ne.symm (by assumption) | exact ne_fr (by assumption) (by assumption) | exact Ne.symm (ne_fr (by assumption) (by assumption)))).trans ?_; first | assumption | exact mset_s | exact Rep.raw (by assumption) (by assumption) | (refine (mset_n (by first | assumption | exact Ne.symm (by assumption) | exact ne_fr (by assumption) (by assumption) | exact Ne.symm (ne_fr (by assumption) (by assumption)))).trans ?_; first | assumption | exact mset_s | exact Rep.raw (by assumption) (by assumption) | (refine (mset_n (by first | assumption | exact Ne.symm (by assumption) | exact ne_fr (by assumption) (by assumption) | exact Ne.symm (ne_fr (by assumption) (by assumption)))).trans ?_; first | assumption | exact mset_s | exact Rep.raw (by assumption) (by assumption) | (refine (mset_n (by first | assumption | exact Ne.symm (by assumption) | exact ne_fr (by assumption) (by assumption) | exact Ne.symm (ne_fr (by assumption) (by assumption)))).trans ?_; assumption)))))))) (by first | assumption | exact ix_D (by first | assumption | omega) (by first | assumption | omega)) ?_
        refine b_call (As := [.ref to, .int q.1, .long q.2]) (rest := []) s11_79 dX11_collect_171 rfl rfl (fun ci hci => by cases hci; exact ⟨_, _, _, rfl, by first | assumption | exact mset_s | exact Rep.raw (by assumption) (by assumption) | (refine (mset_n (by first | assumption | exact Ne.symm (by assumption) | exact ne_fr (by assumption) (by assumption) | exact Ne.symm (ne_fr (by assumption) (by assumption)))).trans ?_; first | assumption | exact mset_s | exact Rep.raw (by assumption) (by assumption) | (refine (mset_n (by first | assumption | exact Ne.symm (by assumption) | exact ne_fr (by assumption) (by assumption) | exact Ne.symm (ne_fr (by assumption) (by assumption)))).trans ?_; first | assumption | exact mset_s | exact Rep.raw (by assumption) (by assumption) | (refine (mset_n (by first | assumption | exact Ne.symm (by assumption) | exact ne_fr (by assumption) (by assumption) | exact Ne.symm (ne_fr (by assumption) (by assumption)))).trans ?_; first | assumption | exact mset_s | exact Rep.raw (by assumption) (by assumption) | (refine (mset_n (by first | assumption | exact Ne.symm (by assumption) | exact ne_fr (by assumption) (by assumption) | exact Ne.symm (ne_fr (by assumption) (by assumption)))).trans ?_; first | assumption | exact mset_s | exact Rep.raw (by assumption) (by assumption) | (refine (mset_n (by first | assumption | exact Ne.symm (by assumption) | exact ne_fr (by assumption) (by assumption) | exact Ne.symm (ne_fr (by assumption) (by assumption)))).trans ?_; first | assumption | exact mset_s | exact Rep.raw (by assumption) (by assumption) | (refine (mset_n (by first | assumption | exact Ne.symm (by assumption) | exact ne_fr (by assumption) (by assumption) | exact Ne.symm (ne_fr (by assumption) (by assumption)))).trans ?_; first | assumption | exact mset_s | exact Rep.raw (by assumption) (by assumption) | (refine (mset_n (by first | assumption | exact Ne.symm (by assumption) | exact ne_fr (by assumption) (by assumption) | exact Ne.symm (ne_fr (by assumption) (by assumption)))).trans ?_; assumption)))))))⟩) (sp_add' (d := d - 1) aset_s (N := 2560) (by omega) hcj (by omega) (by omega) (by omega) (by omega) _ hRc) (by first | (rintro _ _ _ _ ⟨h, -⟩; exact ⟨_, h⟩) | (rintro _ _ _ _ ⟨_, h, -⟩; exact ⟨_, h⟩) | (rintro _ _ _ _ ⟨_, _, h, -⟩; exact ⟨_, h⟩) | (rintro _ _ _ _ ⟨_, _, _, h, -⟩; exact ⟨_, h⟩) | (rintro _ _ _ _ ⟨_, _, _, _, h, -⟩; exact ⟨_, h⟩)) (by omega) (Nat.le_of_ble_eq_true rfl) (fun v1 μ1 k1 n1 hk1 hn1 hQ1 => ?_)
        obtain ⟨α3, hR3, z1, c', z2, z3⟩ := hQ1
        cases z1
        rw [aset2] at z2
        have e6 : rt ++ R.take j ++ [(q.1, q.2)] = rt ++ R.take (j + 1) := by
          rw [take_snoc hq, List.append_assoc]
        rw [e6] at z2
        subst z2
        first | refine b_iincN dX11_collect_174 rfl (by decide) ?_ | refine b_iinc1 dX11_collect_174 rfl (by decide) ?_
        refine b_goto (tgt := 144) dX11_collect_177 (by decide) ?_
        have hg9 := (hg.tr z3).1
        unfold gR0 at hg9
        exact bB.locs rfl (ihf (j + 1) c' _ _ _ (by omega) (by omega) hR3 (by omega) (by omega) (hg.tr z3))
  -- the letters
  have lp2 : ∀ (α1 : AM) (w1' : WS) (cR1 : Nat) (R1 : Prs) (k1 n1 : Nat), Th α1 (h + 1) ((p, cp, cl), o, ks, ls, c1, c2) → α1 ra = some (oR R1 cR1) → α1 to = some (oR rt ct) → WK α1 w1' (dp + 1) → wSm α0 w0 w1' is0 (dp + 1) → (∀ x o, α0 x = some o → x ≠ ra → ¬ wFp w0 (dp + 1) x → α1 x = some o) →
      n + (20480 - 4 * cR1) + Wr w1' h (dp + 1) ≤ n1 + (psiK 0 (w.2.2 0 dp) + Wr w h (dp + 1)) + 4 * ksum (fun c : Kid h => nLt h c.2.2) ks → (20480 - 4 * cR1) + (20480 - 4 * ct) + 4 * ls.length ≤ n1 →
      ∀ (f j cj : Nat) (Rj : Prs) (αj : AM) (μc : Mem) (kc nc : Nat), ls.length - j < f → j ≤ ls.length → Rep αj μc → αj ra = some (oR Rj cj) → 16 ≤ cj → cj ≤ 5120 → (∀ x o, α1 x = some o → x ≠ ra → αj x = some o) → isRng (fun x => effs ((ls.take j).map (·.2)) x (dnk (den h) ks x)) a b Rj → Rj.length ≤ ksum (fun c : Kid h => wt h c.2.2) ks + puts (ls.take j) → nc ≤ 4 * kc → n1 + (20480 - 4 * cj) ≤ nc + (20480 - 4 * cR1) + 4 * j →
      bB g l M11_collect d Q 85 [(0, .ref p), (1, .int a), (2, .int b), (3, .ref to), (6, .ref ra), (7, .int (nI j))] [] μc kc nc := by
    intro α1 w1' cR1 R1 k1 n1 hTh1 hra1 hto1 hW1 hsm1 hfr1 hbud1 hn1 f
    have hnd1 : ¬ wFp w1' (dp + 1) ra := by
      have hent1 : w1'.2.2 0 dp = some (ra, c0) := by rw [hsm1.2.2.1 0 dp (Or.inr (by omega))]; exact hent
      exact hW1.notdeep (by omega) hent1 (by omega)
    induction f with
    | zero => intro j cj Rj αj μc kc nc h; omega
    | succ f ihf =>
      intro j cj Rj αj μc kc nc hf hj hRc hraj hcj hcj2 hfrj hrng hRl hknc hbud
      have hmsgj : ∀ x m, α1 x = some (oW (mC m)) → αj x = some (oW (mC m)) := fun x m hx => hfrj x _ hx (fun e => by rw [e, hra1] at hx; cases hx)
      have hTj : Th αj (h + 1) ((p, cp, cl), o, ks, ls, c1, c2) := Th.keptT _ _ hTh1 (fun x o' hx ho => hfrj x o' ho (nall x hx).1) hmsgj
      obtain ⟨m1, -, ⟨r, rs, m2, m3, e1, hle, hcap, ht⟩, hms, -⟩ := hTj.nodeC hRc
      rw [List.length_map] at m2 hle ht
      have hcap' : c2 ≤ 1000000 := hcap
      have htoj := hfrj to _ hto1 nto
      refine b_iload dX11_collect_85 rfl ?_
      first | refine b_aload_n dX11_collect_87 rfl ?_ | refine b_aload_nN dX11_collect_87 rfl ?_
      refine b_getf dX11_collect_88 f11_15 (by first | assumption | exact mset_s | exact Rep.raw (by assumption) (by assumption) | (refine (mset_n (by first | assumption | exact Ne.symm (by assumption) | exact ne_fr (by assumption) (by assumption) | exact Ne.symm (ne_fr (by assumption) (by assumption)))).trans ?_; first | assumption | exact mset_s | exact Rep.raw (by assumption) (by assumption) | (refine (mset_n (by first | assumption | exact Ne.symm (by assumption) | exact ne_fr (by assumption) (by assumption) | exact Ne.symm (ne_fr (by assumption) (by assumption)))).trans ?_; first | assumption | exact mset_s | exact Rep.raw (by assumption) (by assumption) | (refine (mset_n (by first | assumption | exact Ne.symm (by assumption) | exact ne_fr (by assumption) (by assumption) | exact Ne.symm (ne_fr (by assumption) (by assumption)))).trans ?_; first | assumption | exact mset_s | exact Rep.raw (by assumption) (by assumption) | (refine (mset_n (by first | assumption | exact Ne.symm (by assumption) | exact ne_fr (by assumption) (by assumption) | exact Ne.symm (ne_fr (by assumption) (by assumption)))).trans ?_; first | assumption | exact mset_s | exact Rep.raw (by assumption) (by assumption) | (refine (mset_n (by first | assumption | exact Ne.symm (by assumption) | exact ne_fr (by assumption) (by assumption) | exact Ne.symm (ne_fr (by assumption) (by assumption)))).trans ?_; first | assumption | exact mset_s | exact Rep.raw (by assumption) (by assumption) | (refine (mset_n (by first | assumption | exact Ne.symm (by assumption) | exact ne_fr (by assumption) (by assumption) | exact Ne.symm (ne_fr (by assumption) (by assumption)))).trans ?_; first | assumption | exact mset_s | exact Rep.raw (by assumption) (by assumption) | (refine (mset_n (by first | assumption | exact Ne.symm (by assumption) | exact ne_fr (by assumption) (by assumption) | exact Ne.symm (ne_fr (by assumption) (by assumption)))).trans ?_; assumption)))))))) rfl ?_
      refine b_getf dX11_collect_91 f11_48 (by first | assumption | exact mset_s | exact Rep.raw (by assumption) (by assumption) | (refine (mset_n (by first | assumption | exact Ne.symm (by assumption) | exact ne_fr (by assumption) (by assumption) | exact Ne.symm (ne_fr (by assumption) (by assumption)))).trans ?_; first | assumption | exact mset_s | exact Rep.raw (by assumption) (by assumption) | (refine (mset_n (by first | assumption | exact Ne.symm (by assumption) | exact ne_fr (by assumption) (by assumption) | exact Ne.symm (ne_fr (by assumption) (by assumption)))).trans ?_; first | assumption | exact mset_s | exact Rep.raw (by assumption) (by assumption) | (refine (mset_n (by first | assumption | exact Ne.symm (by assumption) | exact ne_fr (by assumption) (by assumption) | exact Ne.symm (ne_fr (by assumption) (by assumption)))).trans ?_; first | assumption | exact mset_s | exact Rep.raw (by assumption) (by assumption) | (refine (mset_n (by first | assumption | exact Ne.symm (by assumption) | exact ne_fr (by assumption) (by assumption) | exact Ne.symm (ne_fr (by assumption) (by assumption)))).trans ?_; first | assumption | exact mset_s | exact Rep.raw (by assumption) (by assumption) | (refine (mset_n (by first | assumption | exact Ne.symm (by assumption) | exact ne_fr (by assumption) (by assumption) | exact Ne.symm (ne_fr (by assumption) (by assumption)))).trans ?_; first | assumption | exact mset_s | exact Rep.raw (by assumption) (by assumption) | (refine (mset_n (by first | assumption | exact Ne.symm (by assumption) | exact ne_fr (by assumption) (by assumption) | exact Ne.symm (ne_fr (by assumption) (by assumption)))).trans ?_; first | assumption | exact mset_s | exact Rep.raw (by assumption) (by assumption) | (refine (mset_n (by first | assumption | exact Ne.symm (by assumption) | exact ne_fr (by assumption) (by assumption) | exact Ne.symm (ne_fr (by assumption) (by assumption)))).trans ?_; assumption)))))))) rfl ?_
      refine b_icmp_ge (tgt := 141) dX11_collect_94 (by decide) (fun h94 => ?_) (fun h94 => ?_)
      · rw [nI_leI (by omega) (by omega)] at h94
        have e : j = ls.length := by omega
        subst e
        rw [List.take_length] at hrng hRl
        refine b_iconst (v := 0) dX11_collect_141 (by decide) ?_
        refine b_istore dX11_collect_142 (by decide) ?_
        have hWj : WK αj w1' (dp + 1) := hW1.chg hra1 hraj hnd1 (fun x o hx ho => hfrj x o ho hx)
        refine bB.locs rfl (lp3 Rj cj αj w1' kc nc hraj hcj hcj2 htoj hWj hsm1 (fun x o hx h1 h2 => hfrj x o (hfr1 x o hx h1 h2) h1) hrng hRl hknc (by omega) (by omega) (Rj.length + 1) 0 ct _ kc nc (by omega) (by omega) ?_ hc1 hc2 gR.rf)
        rw [List.take_zero, List.append_nil, aset_id htoj]
        exact hRc
      · rw [nI_leI (by omega) (by omega)] at h94
        obtain ⟨q, hq⟩ := at_of (l := ls) (j := j) (by omega)
        have hqm := List.mem_of_getElem? hq
        have hq1 : rs[j]? = some (some q.1) := by
          have : (rs.take ls.length)[j]? = some (some q.1) := by rw [ht, List.getElem?_map, List.getElem?_map, hq]; rfl
          rwa [List.getElem?_take, if_pos (by omega)] at this
        have hix : ix rs (nI j) = some (some q.1) := by rw [ix_n (by omega)]; exact hq1
        have hmq := hms q hqm
        have hmq' : μc q.1 = some (cO 9 [.int q.2.1, .int q.2.2.1, .int q.2.2.2.1, .long q.2.2.2.2]) := hmq
        have hqa : αj q.1 = some (oW (mC q.2)) := hTj.2.2.2.1 q hqm
        obtain ⟨okq, -, -⟩ := w5 q hqm
        have hsn : ∀ x, effs ((ls.take (j + 1)).map (·.2)) x (dnk (den h) ks x) = eff q.2 x (effs ((ls.take j).map (·.2)) x (dnk (den h) ks x)) := by
          intro x
          rw [take_snoc hq, List.map_append]
          exact effs_snoc
        have hps : puts (ls.take (j + 1)) = puts (ls.take j) + (if isR q.2 = true then 0 else 1) := by rw [take_snoc hq, puts_snoc]
        have hpl := puts_take (ls := ls) (j := j + 1)
        first | refine b_aload_n dX11_collect_97 rfl ?_ | refine b_aload_nN dX11_collect_97 rfl ?_
        refine b_getf dX11_collect_98 f11_15 (by first | assumption | exact mset_s | exact Rep.raw (by assumption) (by assumption) | (refine (mset_n (by first | assumption | exact Ne.symm (by assumption) | exact ne_fr (by assumption) (by assumption) | exact Ne.symm (ne_fr (by assumption) (by assumption)))).trans ?_; first | assumption | exact mset_s | exact Rep.raw (by assumption) (by assumption) | (refine (mset_n (by first | assumption | exact Ne.symm (by assumption) | exact ne_fr (by assumption) (by assumption) | exact Ne.symm (ne_fr (by assumption) (by assumption)))).trans ?_; first | assumption | exact mset_s | exact Rep.raw (by assumption) (by assumption) | (refine (mset_n (by first | assumption | exact Ne.symm (by assumption) | exact ne_fr (by assumption) (by assumption) | exact Ne.symm (ne_fr (by assumption) (by assumption)))).trans ?_; first | assumption | exact mset_s | exact Rep.raw (by assumption) (by assumption) | (refine (mset_n (by first | assumption | exact Ne.symm (by assumption) | exact ne_fr (by assumption) (by assumption) | exact Ne.symm (ne_fr (by assumption) (by assumption)))).trans ?_; first | assumption | exact mset_s | exact Rep.raw (by assumption) (by assumption) | (refine (mset_n (by first | assumption | exact Ne.symm (by assumption) | exact ne_fr (by assumption) (by assumption) | exact Ne.symm (ne_fr (by assumption) (by assumption)))).trans ?_; first | assumption | exact mset_s | exact Rep.raw (by assumption) (by assumption) | (refine (mset_n (by first | assumption | exact Ne.symm (by assumption) | exact ne_fr (by assumption) (by assumption) | exact Ne.symm (ne_fr (by assumption) (by assumption)))).trans ?_; first | assumption | exact mset_s | exact Rep.raw (by assumption) (by assumption) | (refine (mset_n (by first | assumption | exact Ne.symm (by assumption) | exact ne_fr (by assumption) (by assumption) | exact Ne.symm (ne_fr (by assumption) (by assumption)))).trans ?_; assumption)))))))) rfl ?_
        refine b_getf dX11_collect_101 f11_51 (by first | assumption | exact mset_s | exact Rep.raw (by assumption) (by assumption) | (refine (mset_n (by first | assumption | exact Ne.symm (by assumption) | exact ne_fr (by assumption) (by assumption) | exact Ne.symm (ne_fr (by assumption) (by assumption)))).trans ?_; first | assumption | exact mset_s | exact Rep.raw (by assumption) (by assumption) | (refine (mset_n (by first | assumption | exact Ne.symm (by assumption) | exact ne_fr (by assumption) (by assumption) | exact Ne.symm (ne_fr (by assumption) (by assumption)))).trans ?_; first | assumption | exact mset_s | exact Rep.raw (by assumption) (by assumption) | (refine (mset_n (by first | assumption | exact Ne.symm (by assumption) | exact ne_fr (by assumption) (by assumption) | exact Ne.symm (ne_fr (by assumption) (by assumption)))).trans ?_; first | assumption | exact mset_s | exact Rep.raw (by assumption) (by assumption) | (refine (mset_n (by first | assumption | exact Ne.symm (by assumption) | exact ne_fr (by assumption) (by assumption) | exact Ne.symm (ne_fr (by assumption) (by assumption)))).trans ?_; first | assumption | exact mset_s | exact Rep.raw (by assumption) (by assumption) | (refine (mset_n (by first | assumption | exact Ne.symm (by assumption) | exact ne_fr (by assumption) (by assumption) | exact Ne.symm (ne_fr (by assumption) (by assumption)))).trans ?_; first | assumption | exact mset_s | exact Rep.raw (by assumption) (by assumption) | (refine (mset_n (by first | assumption | exact Ne.symm (by assumption) | exact ne_fr (by assumption) (by assumption) | exact Ne.symm (ne_fr (by assumption) (by assumption)))).trans ?_; first | assumption | exact mset_s | exact Rep.raw (by assumption) (by assumption) | (refine (mset_n (by first | assumption | exact Ne.symm (by assumption) | exact ne_fr (by assumption) (by assumption) | exact Ne.symm (ne_fr (by assumption) (by assumption)))).trans ?_; assumption)))))))) rfl ?_
        refine b_iload dX11_collect_104 rfl ?_
        refine b_aald dX11_collect_106 (by first | assumption | exact mset_s | exact Rep.raw (by assumption) (by assumption) | (refine (mset_n (by first | assumption | exact Ne.symm (by assumption) | exact ne_fr (by assumption) (by assumption) | exact Ne.symm (ne_fr (by assumption) (by assumption)))).trans ?_; first | assumption | exact mset_s | exact Rep.raw (by assumption) (by assumption) | (refine (mset_n (by first | assumption | exact Ne.symm (by assumption) | exact ne_fr (by assumption) (by assumption) | exact Ne.symm (ne_fr (by assumption) (by assumption)))).trans ?_; first | assumption | exact mset_s | exact Rep.raw (by assumption) (by assumption) | (refine (mset_n (by first | assumption | exact Ne.symm (by assumption) | exact ne_fr (by assumption) (by assumption) | exact Ne.symm (ne_fr (by assumption) (by assumption)))).trans ?_; first | assumption | exact mset_s | exact Rep.raw (by assumption) (by assumption) | (refine (mset_n (by first | assumption | exact Ne.symm (by assumption) | exact ne_fr (by assumption) (by assumption) | exact Ne.symm (ne_fr (by assumption) (by assumption)))).trans ?_; first | assumption | exact mset_s | exact Rep.raw (by assumption) (by assumption) | (refine (mset_n (by first | assumption | exact Ne.symm (by assumption) | exact ne_fr (by assumption) (by assumption) | exact Ne.symm (ne_fr (by assumption) (by assumption)))).trans ?_; first | assumption | exact mset_s | exact Rep.raw (by assumption) (by assumption) | (refine (mset_n (by first | assumption | exact Ne.symm (by assumption) | exact ne_fr (by assumption) (by assumption) | exact Ne.symm (ne_fr (by assumption) (by assumption)))).trans ?_; first | assumption | exact mset_s | exact Rep.raw (by assumption) (by assumption) | (refine (mset_n (by first | assumption | exact Ne.symm (by assumption) | exact ne_fr (by assumption) (by assumption) | exact Ne.symm (ne_fr (by assumption) (by assumption)))).trans ?_; assumption)))))))) (by decide) (by first | assumption | exact ix_D (by first | assumption | omega) (by first | assumption | omega)) ?_
        refine b_iload_n dX11_collect_107 rfl ?_
        refine b_iload_n dX11_collect_108 rfl ?_
        by_cases hin : mIn q.2 a b
        · refine b_callA (As := [.ref q.1, .int a, .int b]) (rest := []) s11_55 dX11_collect_109 rfl rfl (fun ci hci => by cases hci; exact ⟨_, _, _, rfl, by first | assumption | exact mset_s | exact Rep.raw (by assumption) (by assumption) | (refine (mset_n (by first | assumption | exact Ne.symm (by assumption) | exact ne_fr (by assumption) (by assumption) | exact Ne.symm (ne_fr (by assumption) (by assumption)))).trans ?_; first | assumption | exact mset_s | exact Rep.raw (by assumption) (by assumption) | (refine (mset_n (by first | assumption | exact Ne.symm (by assumption) | exact ne_fr (by assumption) (by assumption) | exact Ne.symm (ne_fr (by assumption) (by assumption)))).trans ?_; first | assumption | exact mset_s | exact Rep.raw (by assumption) (by assumption) | (refine (mset_n (by first | assumption | exact Ne.symm (by assumption) | exact ne_fr (by assumption) (by assumption) | exact Ne.symm (ne_fr (by assumption) (by assumption)))).trans ?_; first | assumption | exact mset_s | exact Rep.raw (by assumption) (by assumption) | (refine (mset_n (by first | assumption | exact Ne.symm (by assumption) | exact ne_fr (by assumption) (by assumption) | exact Ne.symm (ne_fr (by assumption) (by assumption)))).trans ?_; first | assumption | exact mset_s | exact Rep.raw (by assumption) (by assumption) | (refine (mset_n (by first | assumption | exact Ne.symm (by assumption) | exact ne_fr (by assumption) (by assumption) | exact Ne.symm (ne_fr (by assumption) (by assumption)))).trans ?_; first | assumption | exact mset_s | exact Rep.raw (by assumption) (by assumption) | (refine (mset_n (by first | assumption | exact Ne.symm (by assumption) | exact ne_fr (by assumption) (by assumption) | exact Ne.symm (ne_fr (by assumption) (by assumption)))).trans ?_; first | assumption | exact mset_s | exact Rep.raw (by assumption) (by assumption) | (refine (mset_n (by first | assumption | exact Ne.symm (by assumption) | exact ne_fr (by assumption) (by assumption) | exact Ne.symm (ne_fr (by assumption) (by assumption)))).trans ?_; assumption)))))))⟩) ((sp_isIn (d := 0) hmq).1 hin) (by omega) (Nat.le_of_ble_eq_true rfl) ?_
          refine b_if_eq (tgt := 135) dX11_collect_112 (by decide) (fun h => absurd h (by decide)) (fun _ => ?_)
          first | refine b_aload dX11_collect_115 rfl ?_ | refine b_aloadN dX11_collect_115 rfl ?_
          first | refine b_aload_n dX11_collect_117 rfl ?_ | refine b_aload_nN dX11_collect_117 rfl ?_
          refine b_getf dX11_collect_118 f11_15 (by first | assumption | exact mset_s | exact Rep.raw (by assumption) (by assumption) | (refine (mset_n (by first | assumption | exact Ne.symm (by assumption) | exact ne_fr (by assumption) (by assumption) | exact Ne.symm (ne_fr (by assumption) (by assumption)))).trans ?_; first | assumption | exact mset_s | exact Rep.raw (by assumption) (by assumption) | (refine (mset_n (by first | assumption | exact Ne.symm (by assumption) | exact ne_fr (by assumption) (by assumption) | exact Ne.symm (ne_fr (by assumption) (by assumption)))).trans ?_; first | assumption | exact mset_s | exact Rep.raw (by assumption) (by assumption) | (refine (mset_n (by first | assumption | exact Ne.symm (by assumption) | exact ne_fr (by assumption) (by assumption) | exact Ne.symm (ne_fr (by assumption) (by assumption)))).trans ?_; first | assumption | exact mset_s | exact Rep.raw (by assumption) (by assumption) | (refine (mset_n (by first | assumption | exact Ne.symm (by assumption) | exact ne_fr (by assumption) (by assumption) | exact Ne.symm (ne_fr (by assumption) (by assumption)))).trans ?_; first | assumption | exact mset_s | exact Rep.raw (by assumption) (by assumption) | (refine (mset_n (by first | assumption | exact Ne.symm (by assumption) | exact ne_fr (by assumption) (by assumption) | exact Ne.symm (ne_fr (by assumption) (by assumption)))).trans ?_; first | assumption | exact mset_s | exact Rep.raw (by assumption) (by assumption) | (refine (mset_n (by first | assumption | exact Ne.symm (by assumption) | exact ne_fr (by assumption) (by assumption) | exact Ne.symm (ne_fr (by assumption) (by assumption)))).trans ?_; first | assumption | exact mset_s | exact Rep.raw (by assumption) (by assumption) | (refine (mset_n (by first | assumption | exact Ne.symm (by assumption) | exact ne_fr (by assumption) (by assumption) | exact Ne.symm (ne_fr (by assumption) (by assumption)))).trans ?_; assumption)))))))) rfl ?_
          refine b_getf dX11_collect_121 f11_51 (by first | assumption | exact mset_s | exact Rep.raw (by assumption) (by assumption) | (refine (mset_n (by first | assumption | exact Ne.symm (by assumption) | exact ne_fr (by assumption) (by assumption) | exact Ne.symm (ne_fr (by assumption) (by assumption)))).trans ?_; first | assumption | exact mset_s | exact Rep.raw (by assumption) (by assumption) | (refine (mset_n (by first | assumption | exact Ne.symm (by assumption) | exact ne_fr (by assumption) (by assumption) | exact Ne.symm (ne_fr (by assumption) (by assumption)))).trans ?_; first | assumption | exact mset_s | exact Rep.raw (by assumption) (by assumption) | (refine (mset_n (by first | assumption | exact Ne.symm (by assumption) | exact ne_fr (by assumption) (by assumption) | exact Ne.symm (ne_fr (by assumption) (by assumption)))).trans ?_; first | assumption | exact mset_s | exact Rep.raw (by assumption) (by assumption) | (refine (mset_n (by first | assumption | exact Ne.symm (by assumption) | exact ne_fr (by assumption) (by assumption) | exact Ne.symm (ne_fr (by assumption) (by assumption)))).trans ?_; first | assumption | exact mset_s | exact Rep.raw (by assumption) (by assumption) | (refine (mset_n (by first | assumption | exact Ne.symm (by assumption) | exact ne_fr (by assumption) (by assumption) | exact Ne.symm (ne_fr (by assumption) (by assumption)))).trans ?_; first | assumption | exact mset_s | exact Rep.raw (by assumption) (by assumption) | (refine (mset_n (by first | assumption | exact Ne.symm (by assumption) | exact ne_fr (by assumption) (by assumption) | exact Ne.symm (ne_fr (by assumption) (by assumption)))).trans ?_; first | assumption | exact mset_s | exact Rep.raw (by assumption) (by assumption) | (refine (mset_n (by first | assumption | exact Ne.symm (by assumption) | exact ne_fr (by assumption) (by assumption) | exact Ne.symm (ne_fr (by assumption) (by assumption)))).trans ?_; assumption)))))))) rfl ?_
          refine b_iload dX11_collect_124 rfl ?_
          refine b_aald dX11_collect_126 (by first | assumption | exact mset_s | exact Rep.raw (by assumption) (by assumption) | (refine (mset_n (by first | assumption | exact Ne.symm (by assumption) | exact ne_fr (by assumption) (by assumption) | exact Ne.symm (ne_fr (by assumption) (by assumption)))).trans ?_; first | assumption | exact mset_s | exact Rep.raw (by assumption) (by assumption) | (refine (mset_n (by first | assumption | exact Ne.symm (by assumption) | exact ne_fr (by assumption) (by assumption) | exact Ne.symm (ne_fr (by assumption) (by assumption)))).trans ?_; first | assumption | exact mset_s | exact Rep.raw (by assumption) (by assumption) | (refine (mset_n (by first | assumption | exact Ne.symm (by assumption) | exact ne_fr (by assumption) (by assumption) | exact Ne.symm (ne_fr (by assumption) (by assumption)))).trans ?_; first | assumption | exact mset_s | exact Rep.raw (by assumption) (by assumption) | (refine (mset_n (by first | assumption | exact Ne.symm (by assumption) | exact ne_fr (by assumption) (by assumption) | exact Ne.symm (ne_fr (by assumption) (by assumption)))).trans ?_; first | assumption | exact mset_s | exact Rep.raw (by assumption) (by assumption) | (refine (mset_n (by first | assumption | exact Ne.symm (by assumption) | exact ne_fr (by assumption) (by assumption) | exact Ne.symm (ne_fr (by assumption) (by assumption)))).trans ?_; first | assumption | exact mset_s | exact Rep.raw (by assumption) (by assumption) | (refine (mset_n (by first | assumption | exact Ne.symm (by assumption) | exact ne_fr (by assumption) (by assumption) | exact Ne.symm (ne_fr (by assumption) (by assumption)))).trans ?_; first | assumption | exact mset_s | exact Rep.raw (by assumption) (by assumption) | (refine (mset_n (by first | assumption | exact Ne.symm (by assumption) | exact ne_fr (by assumption) (by assumption) | exact Ne.symm (ne_fr (by assumption) (by assumption)))).trans ?_; assumption)))))))) (by decide) (by first | assumption | exact ix_D (by first | assumption | omega) (by first | assumption | omega)) ?_
          refine b_iload_n dX11_collect_127 rfl ?_
          refine b_iload_n dX11_collect_128 rfl ?_
          refine b_call (As := [.ref q.1, .int a, .int b]) (rest := [.ref ra]) s11_61 dX11_collect_129 rfl rfl (fun ci hci => by cases hci; exact ⟨_, _, _, rfl, by first | assumption | exact mset_s | exact Rep.raw (by assumption) (by assumption) | (refine (mset_n (by first | assumption | exact Ne.symm (by assumption) | exact ne_fr (by assumption) (by assumption) | exact Ne.symm (ne_fr (by assumption) (by assumption)))).trans ?_; first | assumption | exact mset_s | exact Rep.raw (by assumption) (by assumption) | (refine (mset_n (by first | assumption | exact Ne.symm (by assumption) | exact ne_fr (by assumption) (by assumption) | exact Ne.symm (ne_fr (by assumption) (by assumption)))).trans ?_; first | assumption | exact mset_s | exact Rep.raw (by assumption) (by assumption) | (refine (mset_n (by first | assumption | exact Ne.symm (by assumption) | exact ne_fr (by assumption) (by assumption) | exact Ne.symm (ne_fr (by assumption) (by assumption)))).trans ?_; first | assumption | exact mset_s | exact Rep.raw (by assumption) (by assumption) | (refine (mset_n (by first | assumption | exact Ne.symm (by assumption) | exact ne_fr (by assumption) (by assumption) | exact Ne.symm (ne_fr (by assumption) (by assumption)))).trans ?_; first | assumption | exact mset_s | exact Rep.raw (by assumption) (by assumption) | (refine (mset_n (by first | assumption | exact Ne.symm (by assumption) | exact ne_fr (by assumption) (by assumption) | exact Ne.symm (ne_fr (by assumption) (by assumption)))).trans ?_; first | assumption | exact mset_s | exact Rep.raw (by assumption) (by assumption) | (refine (mset_n (by first | assumption | exact Ne.symm (by assumption) | exact ne_fr (by assumption) (by assumption) | exact Ne.symm (ne_fr (by assumption) (by assumption)))).trans ?_; first | assumption | exact mset_s | exact Rep.raw (by assumption) (by assumption) | (refine (mset_n (by first | assumption | exact Ne.symm (by assumption) | exact ne_fr (by assumption) (by assumption) | exact Ne.symm (ne_fr (by assumption) (by assumption)))).trans ?_; assumption)))))))⟩) (sp_cut (d := d - 1) hqa (by omega) (fun _ => by omega) _ hRc) (by first | (rintro _ _ _ _ ⟨h, -⟩; exact ⟨_, h⟩) | (rintro _ _ _ _ ⟨_, h, -⟩; exact ⟨_, h⟩) | (rintro _ _ _ _ ⟨_, _, h, -⟩; exact ⟨_, h⟩) | (rintro _ _ _ _ ⟨_, _, _, h, -⟩; exact ⟨_, h⟩) | (rintro _ _ _ _ ⟨_, _, _, _, h, -⟩; exact ⟨_, h⟩)) (by omega) (Nat.le_of_ble_eq_true rfl) (fun v5 μ5 k5 n5 hk5 hn5 hQ5 => ?_)
          obtain ⟨α2, hR2, q', z1, z2, z3, z4⟩ := hQ5
          cases z1
          have hra2 := z3 ra _ hraj
          obtain ⟨kr', vr', ks'', vs', mra, -⟩ := hR2.row hra2
          obtain ⟨cok, cwi⟩ := cut_ok okq hin hab
          have hml := mApp_le (r := Rj) cok.1
          have hisr : isR (mcut q.2 a b) = isR q.2 := rfl
          rw [hisr] at hml
          have hk2 : n5 ≤ 4 * k5 ∧ nc ≤ n5 + 4 := by
            rcases z4 with ⟨-, -, e2, e3⟩ | ⟨-, -, -, e2, e3⟩
            · omega
            · omega
          obtain ⟨hk2, hk3⟩ := hk2
          refine b_call (As := [.ref ra, .ref q']) (rest := []) s11_65 dX11_collect_132 rfl rfl (fun ci hci => by cases hci; exact ⟨_, _, _, rfl, by first | assumption | exact mset_s | exact Rep.raw (by assumption) (by assumption) | (refine (mset_n (by first | assumption | exact Ne.symm (by assumption) | exact ne_fr (by assumption) (by assumption) | exact Ne.symm (ne_fr (by assumption) (by assumption)))).trans ?_; first | assumption | exact mset_s | exact Rep.raw (by assumption) (by assumption) | (refine (mset_n (by first | assumption | exact Ne.symm (by assumption) | exact ne_fr (by assumption) (by assumption) | exact Ne.symm (ne_fr (by assumption) (by assumption)))).trans ?_; first | assumption | exact mset_s | exact Rep.raw (by assumption) (by assumption) | (refine (mset_n (by first | assumption | exact Ne.symm (by assumption) | exact ne_fr (by assumption) (by assumption) | exact Ne.symm (ne_fr (by assumption) (by assumption)))).trans ?_; first | assumption | exact mset_s | exact Rep.raw (by assumption) (by assumption) | (refine (mset_n (by first | assumption | exact Ne.symm (by assumption) | exact ne_fr (by assumption) (by assumption) | exact Ne.symm (ne_fr (by assumption) (by assumption)))).trans ?_; first | assumption | exact mset_s | exact Rep.raw (by assumption) (by assumption) | (refine (mset_n (by first | assumption | exact Ne.symm (by assumption) | exact ne_fr (by assumption) (by assumption) | exact Ne.symm (ne_fr (by assumption) (by assumption)))).trans ?_; first | assumption | exact mset_s | exact Rep.raw (by assumption) (by assumption) | (refine (mset_n (by first | assumption | exact Ne.symm (by assumption) | exact ne_fr (by assumption) (by assumption) | exact Ne.symm (ne_fr (by assumption) (by assumption)))).trans ?_; first | assumption | exact mset_s | exact Rep.raw (by assumption) (by assumption) | (refine (mset_n (by first | assumption | exact Ne.symm (by assumption) | exact ne_fr (by assumption) (by assumption) | exact Ne.symm (ne_fr (by assumption) (by assumption)))).trans ?_; assumption)))))))⟩) (sp_take' (d := d - 1) hra2 z2 hrng.1 cok.1 (N := 2560) (by omega) (by omega) hcj (by omega) (by omega) (by omega) (by omega) _ hR2) (by first | (rintro _ _ _ _ ⟨h, -⟩; exact ⟨_, h⟩) | (rintro _ _ _ _ ⟨_, h, -⟩; exact ⟨_, h⟩) | (rintro _ _ _ _ ⟨_, _, h, -⟩; exact ⟨_, h⟩) | (rintro _ _ _ _ ⟨_, _, _, h, -⟩; exact ⟨_, h⟩) | (rintro _ _ _ _ ⟨_, _, _, _, h, -⟩; exact ⟨_, h⟩)) (by omega) (Nat.le_of_ble_eq_true rfl) (fun v2 μ2 k2 n2 hk2 hn2 hQ2 => ?_)
          obtain ⟨α3, hR3, y1, c', y2, y3⟩ := hQ2
          cases y1
          subst y2
          first | refine b_iincN dX11_collect_135 rfl (by decide) ?_ | refine b_iinc1 dX11_collect_135 rfl (by decide) ?_
          refine b_goto (tgt := 85) dX11_collect_138 (by decide) ?_
          have hg0 := y3.1
          unfold gR0 at hg0
          refine bB.locs rfl (ihf (j + 1) c' (mApp (mcut q.2 a b) Rj) _ _ _ _ (by omega) (by omega) hR3 aset_s (by omega) (by omega) (fun x o hx hne => (aset_n hne).trans (z3 x o (hfrj x o hx hne))) ?_ (by omega) (by omega) (by omega))
          have := rng_step hrng okq hin hab
          exact isRng.of this.1 (fun x => by rw [this.at x]; rw [hsn x])
        · refine b_callA (As := [.ref q.1, .int a, .int b]) (rest := []) s11_55 dX11_collect_109 rfl rfl (fun ci hci => by cases hci; exact ⟨_, _, _, rfl, by first | assumption | exact mset_s | exact Rep.raw (by assumption) (by assumption) | (refine (mset_n (by first | assumption | exact Ne.symm (by assumption) | exact ne_fr (by assumption) (by assumption) | exact Ne.symm (ne_fr (by assumption) (by assumption)))).trans ?_; first | assumption | exact mset_s | exact Rep.raw (by assumption) (by assumption) | (refine (mset_n (by first | assumption | exact Ne.symm (by assumption) | exact ne_fr (by assumption) (by assumption) | exact Ne.symm (ne_fr (by assumption) (by assumption)))).trans ?_; first | assumption | exact mset_s | exact Rep.raw (by assumption) (by assumption) | (refine (mset_n (by first | assumption | exact Ne.symm (by assumption) | exact ne_fr (by assumption) (by assumption) | exact Ne.symm (ne_fr (by assumption) (by assumption)))).trans ?_; first | assumption | exact mset_s | exact Rep.raw (by assumption) (by assumption) | (refine (mset_n (by first | assumption | exact Ne.symm (by assumption) | exact ne_fr (by assumption) (by assumption) | exact Ne.symm (ne_fr (by assumption) (by assumption)))).trans ?_; first | assumption | exact mset_s | exact Rep.raw (by assumption) (by assumption) | (refine (mset_n (by first | assumption | exact Ne.symm (by assumption) | exact ne_fr (by assumption) (by assumption) | exact Ne.symm (ne_fr (by assumption) (by assumption)))).trans ?_; first | assumption | exact mset_s | exact Rep.raw (by assumption) (by assumption) | (refine (mset_n (by first | assumption | exact Ne.symm (by assumption) | exact ne_fr (by assumption) (by assumption) | exact Ne.symm (ne_fr (by assumption) (by assumption)))).trans ?_; first | assumption | exact mset_s | exact Rep.raw (by assumption) (by assumption) | (refine (mset_n (by first | assumption | exact Ne.symm (by assumption) | exact ne_fr (by assumption) (by assumption) | exact Ne.symm (ne_fr (by assumption) (by assumption)))).trans ?_; assumption)))))))⟩) ((sp_isIn (d := 0) hmq).2 hin) (by omega) (Nat.le_of_ble_eq_true rfl) ?_
          refine b_if_eq (tgt := 135) dX11_collect_112 (by decide) (fun _ => ?_) (fun h => absurd rfl h)
          first | refine b_iincN dX11_collect_135 rfl (by decide) ?_ | refine b_iinc1 dX11_collect_135 rfl (by decide) ?_
          refine b_goto (tgt := 85) dX11_collect_138 (by decide) ?_
          refine bB.locs rfl (ihf (j + 1) cj Rj αj _ _ _ (by omega) (by omega) hRc hraj hcj hcj2 hfrj ?_ (by omega) hknc (by omega))
          have := rng_skip hrng hin
          exact isRng.of this.1 (fun x => by rw [this.at x]; rw [hsn x])
  -- the children
  have lp1 : ∀ (f j cj : Nat) (Rj : Prs) (αj : AM) (wj : WS) (μc : Mem) (kc nc : Nat), ks.length - j < f → j ≤ ks.length → Rep αj μc → αj ra = some (oR Rj cj) → 16 ≤ cj → cj ≤ 5120 → WK αj wj (dp + 1) → wSm α0 w0 wj is0 (dp + 1) → (∀ x o, α0 x = some o → x ≠ ra → ¬ wFp w0 (dp + 1) x → αj x = some o) → isRng (dnk (den h) (ks.take j)) a b Rj → Rj.length ≤ ksum (fun c : Kid h => wt h c.2.2) (ks.take j) → nc ≤ 4 * kc →
      n + (20480 - 4 * cj) + Wr wj h (dp + 1) ≤ nc + (psiK 0 (w.2.2 0 dp) + Wr w h (dp + 1)) + 4 * ksum (fun c : Kid h => nLt h c.2.2) (ks.take j) →
      bB g l M11_collect d Q 12 [(0, .ref p), (1, .int a), (2, .int b), (3, .ref to), (4, .ref w.1), (5, .int (nI dp)), (6, .ref ra), (7, .int (nI j))] [] μc kc nc := by
    intro f
    induction f with
    | zero => intro j cj Rj αj wj μc kc nc h; omega
    | succ f ihf =>
      intro j cj Rj αj wj μc kc nc hf hj hRc hraj hcj hcj2 hWj hsmj hfrj hrng hRl hknc hbud
      have hmsgj : ∀ x m, α0 x = some (oW (mC m)) → αj x = some (oW (mC m)) := by
        intro x m hx
        refine hfrj x _ hx (fun e => by rw [e, g1] at hx; cases hx) (fun hf => ?_)
        rcases hf with ⟨kd, hk, e'⟩ | ⟨kd, j, c, hk, hj, e'⟩
        · rw [e', g2.2.1 kd hk] at hx; cases hx
        · obtain ⟨c', hc'⟩ := (g2.2.2.1 kd j x c hk e').1
          obtain ⟨o', ho', hne⟩ := hc'.some
          rw [ho'] at hx
          exact hne _ (Option.some.inj hx)
      have hTj : Th αj (h + 1) ((p, cp, cl), o, ks, ls, c1, c2) := Th.keptT _ _ hT1 (fun x o' hx ho => hfrj x o' ho (nall x hx).1 (hsep0 x hx)) hmsgj
      obtain ⟨m1, ⟨x, y, xs, zs, hpg⟩, -, -, hcell⟩ := hTj.nodeC hRc
      have hpg0 := hpg
      obtain ⟨m2, m3, m4, e1, e2, hle, hcap, ht, hu⟩ := hpg
      rw [kA_len] at m2 hle ht hu
      have hcap' : c1 ≤ 1000000 := hcap
      have htoj := hfrj to _ hto0 nto hnto0
      have hkt := ksum_take (f := fun c : Kid h => nLt h c.2.2) (l := ks) (j := j)
      refine b_iload dX11_collect_12 rfl ?_
      first | refine b_aload_n dX11_collect_14 rfl ?_ | refine b_aload_nN dX11_collect_14 rfl ?_
      refine b_getf dX11_collect_15 f11_9 (by first | assumption | exact mset_s | exact Rep.raw (by assumption) (by assumption) | (refine (mset_n (by first | assumption | exact Ne.symm (by assumption) | exact ne_fr (by assumption) (by assumption) | exact Ne.symm (ne_fr (by assumption) (by assumption)))).trans ?_; first | assumption | exact mset_s | exact Rep.raw (by assumption) (by assumption) | (refine (mset_n (by first | assumption | exact Ne.symm (by assumption) | exact ne_fr (by assumption) (by assumption) | exact Ne.symm (ne_fr (by assumption) (by assumption)))).trans ?_; first | assumption | exact mset_s | exact Rep.raw (by assumption) (by assumption) | (refine (mset_n (by first | assumption | exact Ne.symm (by assumption) | exact ne_fr (by assumption) (by assumption) | exact Ne.symm (ne_fr (by assumption) (by assumption)))).trans ?_; first | assumption | exact mset_s | exact Rep.raw (by assumption) (by assumption) | (refine (mset_n (by first | assumption | exact Ne.symm (by assumption) | exact ne_fr (by assumption) (by assumption) | exact Ne.symm (ne_fr (by assumption) (by assumption)))).trans ?_; first | assumption | exact mset_s | exact Rep.raw (by assumption) (by assumption) | (refine (mset_n (by first | assumption | exact Ne.symm (by assumption) | exact ne_fr (by assumption) (by assumption) | exact Ne.symm (ne_fr (by assumption) (by assumption)))).trans ?_; first | assumption | exact mset_s | exact Rep.raw (by assumption) (by assumption) | (refine (mset_n (by first | assumption | exact Ne.symm (by assumption) | exact ne_fr (by assumption) (by assumption) | exact Ne.symm (ne_fr (by assumption) (by assumption)))).trans ?_; first | assumption | exact mset_s | exact Rep.raw (by assumption) (by assumption) | (refine (mset_n (by first | assumption | exact Ne.symm (by assumption) | exact ne_fr (by assumption) (by assumption) | exact Ne.symm (ne_fr (by assumption) (by assumption)))).trans ?_; assumption)))))))) rfl ?_
      refine b_getf dX11_collect_18 f11_25 (by first | assumption | exact mset_s | exact Rep.raw (by assumption) (by assumption) | (refine (mset_n (by first | assumption | exact Ne.symm (by assumption) | exact ne_fr (by assumption) (by assumption) | exact Ne.symm (ne_fr (by assumption) (by assumption)))).trans ?_; first | assumption | exact mset_s | exact Rep.raw (by assumption) (by assumption) | (refine (mset_n (by first | assumption | exact Ne.symm (by assumption) | exact ne_fr (by assumption) (by assumption) | exact Ne.symm (ne_fr (by assumption) (by assumption)))).trans ?_; first | assumption | exact mset_s | exact Rep.raw (by assumption) (by assumption) | (refine (mset_n (by first | assumption | exact Ne.symm (by assumption) | exact ne_fr (by assumption) (by assumption) | exact Ne.symm (ne_fr (by assumption) (by assumption)))).trans ?_; first | assumption | exact mset_s | exact Rep.raw (by assumption) (by assumption) | (refine (mset_n (by first | assumption | exact Ne.symm (by assumption) | exact ne_fr (by assumption) (by assumption) | exact Ne.symm (ne_fr (by assumption) (by assumption)))).trans ?_; first | assumption | exact mset_s | exact Rep.raw (by assumption) (by assumption) | (refine (mset_n (by first | assumption | exact Ne.symm (by assumption) | exact ne_fr (by assumption) (by assumption) | exact Ne.symm (ne_fr (by assumption) (by assumption)))).trans ?_; first | assumption | exact mset_s | exact Rep.raw (by assumption) (by assumption) | (refine (mset_n (by first | assumption | exact Ne.symm (by assumption) | exact ne_fr (by assumption) (by assumption) | exact Ne.symm (ne_fr (by assumption) (by assumption)))).trans ?_; first | assumption | exact mset_s | exact Rep.raw (by assumption) (by assumption) | (refine (mset_n (by first | assumption | exact Ne.symm (by assumption) | exact ne_fr (by assumption) (by assumption) | exact Ne.symm (ne_fr (by assumption) (by assumption)))).trans ?_; assumption)))))))) rfl ?_
      refine b_icmp_ge (tgt := 82) dX11_collect_21 (by decide) (fun h21 => ?_) (fun h21 => ?_)
      · rw [nI_leI (by omega) (by omega)] at h21
        have e : j = ks.length := by omega
        subst e
        rw [List.take_length] at hrng hRl hbud
        refine b_iconst (v := 0) dX11_collect_82 (by decide) ?_
        refine b_istore dX11_collect_83 (by decide) ?_
        refine bB.locs rfl (lp2 αj wj cj Rj kc nc hTj hraj htoj hWj hsmj hfrj hbud (by omega) (ls.length + 1) 0 cj Rj αj _ kc nc (by omega) (by omega) hRc hraj hcj hcj2 (fun x o hx _ => hx) hrng (by rw [List.take_zero]; show _ ≤ _ + 0; omega) hknc (by omega))
      · rw [nI_leI (by omega) (by omega)] at h21
        obtain ⟨c, hc⟩ := at_of (l := ks) (j := j) (by omega)
        have hcm := List.mem_of_getElem? hc
        obtain ⟨fs, hfs⟩ := hcell c hcm
        have hxj : xs[j]? = some (some (adr h c.2.2)) := by
          have : (xs.take ks.length)[j]? = some (some (adr h c.2.2)) := by rw [ht, List.getElem?_map, kA_at hc]; rfl
          rwa [List.getElem?_take, if_pos (by omega)] at this
        have hix : ix xs (nI j) = some (some (adr h c.2.2)) := by rw [ix_n (by omega)]; exact hxj
        have hzj : zs[j]? = some c.1 := by
          have : (zs.take ks.length)[j]? = some c.1 := by rw [hu, List.getElem?_map, kA_at hc]; rfl
          rwa [List.getElem?_take, if_pos (by omega)] at this
        have hiz : ix zs (nI j) = some c.1 := by rw [ix_n (by omega)]; exact hzj
        have hsn := take_snoc hc
        have hchn : ∃ m, chn lo.toInt m (ks.take j ++ [c]) := by
          rw [← hsn]
          have h9 := w3
          rw [← List.take_append_drop (j + 1) ks] at h9
          obtain ⟨m, h9, -⟩ := chn.app.mp h9
          exact ⟨m, h9⟩
        obtain ⟨mm, hchn⟩ := hchn
        have hcw := w10 c hcm
        have hks1 := ksum_snoc (f := fun c : Kid h => wt h c.2.2) hc
        have hks2 := ksum_snoc (f := fun c : Kid h => nLt h c.2.2) hc
        have hkt1 := ksum_take (f := fun c : Kid h => wt h c.2.2) (l := ks) (j := j + 1)
        have hkt2 := ksum_take (f := fun c : Kid h => nLt h c.2.2) (l := ks) (j := j + 1)
        have hcl := w3.mem c hcm
        -- a child that has none of the keys
        have skip : (∀ x : Int32, a ≤ x → x ≤ b → ¬ kin x c = true) → bB g l M11_collect d Q 76 [(0, .ref p), (1, .int a), (2, .int b), (3, .ref to), (4, .ref w.1), (5, .int (nI dp)), (6, .ref ra), (7, .int (nI j))] [] μc kc nc := by
          intro hno
          first | refine b_iincN dX11_collect_76 rfl (by decide) ?_ | refine b_iinc1 dX11_collect_76 rfl (by decide) ?_
          refine b_goto (tgt := 12) dX11_collect_79 (by decide) ?_
          refine bB.locs rfl (ihf (j + 1) cj Rj αj wj _ _ _ (by omega) (by omega) hRc hraj hcj hcj2 hWj hsmj hfrj ?_ (by omega) hknc (by omega))
          rw [hsn]
          refine isRng.of hrng.1 (fun x => ?_)
          rw [hrng.at x]
          split
          · next e => rw [dnk_snoc hchn, if_neg (hno x e.1 e.2)]
          · rfl
        first | refine b_aload_n dX11_collect_24 rfl ?_ | refine b_aload_nN dX11_collect_24 rfl ?_
        refine b_getf dX11_collect_25 f11_9 (by first | assumption | exact mset_s | exact Rep.raw (by assumption) (by assumption) | (refine (mset_n (by first | assumption | exact Ne.symm (by assumption) | exact ne_fr (by assumption) (by assumption) | exact Ne.symm (ne_fr (by assumption) (by assumption)))).trans ?_; first | assumption | exact mset_s | exact Rep.raw (by assumption) (by assumption) | (refine (mset_n (by first | assumption | exact Ne.symm (by assumption) | exact ne_fr (by assumption) (by assumption) | exact Ne.symm (ne_fr (by assumption) (by assumption)))).trans ?_; first | assumption | exact mset_s | exact Rep.raw (by assumption) (by assumption) | (refine (mset_n (by first | assumption | exact Ne.symm (by assumption) | exact ne_fr (by assumption) (by assumption) | exact Ne.symm (ne_fr (by assumption) (by assumption)))).trans ?_; first | assumption | exact mset_s | exact Rep.raw (by assumption) (by assumption) | (refine (mset_n (by first | assumption | exact Ne.symm (by assumption) | exact ne_fr (by assumption) (by assumption) | exact Ne.symm (ne_fr (by assumption) (by assumption)))).trans ?_; first | assumption | exact mset_s | exact Rep.raw (by assumption) (by assumption) | (refine (mset_n (by first | assumption | exact Ne.symm (by assumption) | exact ne_fr (by assumption) (by assumption) | exact Ne.symm (ne_fr (by assumption) (by assumption)))).trans ?_; first | assumption | exact mset_s | exact Rep.raw (by assumption) (by assumption) | (refine (mset_n (by first | assumption | exact Ne.symm (by assumption) | exact ne_fr (by assumption) (by assumption) | exact Ne.symm (ne_fr (by assumption) (by assumption)))).trans ?_; first | assumption | exact mset_s | exact Rep.raw (by assumption) (by assumption) | (refine (mset_n (by first | assumption | exact Ne.symm (by assumption) | exact ne_fr (by assumption) (by assumption) | exact Ne.symm (ne_fr (by assumption) (by assumption)))).trans ?_; assumption)))))))) rfl ?_
        refine b_getf dX11_collect_28 f11_31 (by first | assumption | exact mset_s | exact Rep.raw (by assumption) (by assumption) | (refine (mset_n (by first | assumption | exact Ne.symm (by assumption) | exact ne_fr (by assumption) (by assumption) | exact Ne.symm (ne_fr (by assumption) (by assumption)))).trans ?_; first | assumption | exact mset_s | exact Rep.raw (by assumption) (by assumption) | (refine (mset_n (by first | assumption | exact Ne.symm (by assumption) | exact ne_fr (by assumption) (by assumption) | exact Ne.symm (ne_fr (by assumption) (by assumption)))).trans ?_; first | assumption | exact mset_s | exact Rep.raw (by assumption) (by assumption) | (refine (mset_n (by first | assumption | exact Ne.symm (by assumption) | exact ne_fr (by assumption) (by assumption) | exact Ne.symm (ne_fr (by assumption) (by assumption)))).trans ?_; first | assumption | exact mset_s | exact Rep.raw (by assumption) (by assumption) | (refine (mset_n (by first | assumption | exact Ne.symm (by assumption) | exact ne_fr (by assumption) (by assumption) | exact Ne.symm (ne_fr (by assumption) (by assumption)))).trans ?_; first | assumption | exact mset_s | exact Rep.raw (by assumption) (by assumption) | (refine (mset_n (by first | assumption | exact Ne.symm (by assumption) | exact ne_fr (by assumption) (by assumption) | exact Ne.symm (ne_fr (by assumption) (by assumption)))).trans ?_; first | assumption | exact mset_s | exact Rep.raw (by assumption) (by assumption) | (refine (mset_n (by first | assumption | exact Ne.symm (by assumption) | exact ne_fr (by assumption) (by assumption) | exact Ne.symm (ne_fr (by assumption) (by assumption)))).trans ?_; first | assumption | exact mset_s | exact Rep.raw (by assumption) (by assumption) | (refine (mset_n (by first | assumption | exact Ne.symm (by assumption) | exact ne_fr (by assumption) (by assumption) | exact Ne.symm (ne_fr (by assumption) (by assumption)))).trans ?_; assumption)))))))) rfl ?_
        refine b_iload dX11_collect_31 rfl ?_
        refine b_iald dX11_collect_33 (by first | assumption | exact mset_s | exact Rep.raw (by assumption) (by assumption) | (refine (mset_n (by first | assumption | exact Ne.symm (by assumption) | exact ne_fr (by assumption) (by assumption) | exact Ne.symm (ne_fr (by assumption) (by assumption)))).trans ?_; first | assumption | exact mset_s | exact Rep.raw (by assumption) (by assumption) | (refine (mset_n (by first | assumption | exact Ne.symm (by assumption) | exact ne_fr (by assumption) (by assumption) | exact Ne.symm (ne_fr (by assumption) (by assumption)))).trans ?_; first | assumption | exact mset_s | exact Rep.raw (by assumption) (by assumption) | (refine (mset_n (by first | assumption | exact Ne.symm (by assumption) | exact ne_fr (by assumption) (by assumption) | exact Ne.symm (ne_fr (by assumption) (by assumption)))).trans ?_; first | assumption | exact mset_s | exact Rep.raw (by assumption) (by assumption) | (refine (mset_n (by first | assumption | exact Ne.symm (by assumption) | exact ne_fr (by assumption) (by assumption) | exact Ne.symm (ne_fr (by assumption) (by assumption)))).trans ?_; first | assumption | exact mset_s | exact Rep.raw (by assumption) (by assumption) | (refine (mset_n (by first | assumption | exact Ne.symm (by assumption) | exact ne_fr (by assumption) (by assumption) | exact Ne.symm (ne_fr (by assumption) (by assumption)))).trans ?_; first | assumption | exact mset_s | exact Rep.raw (by assumption) (by assumption) | (refine (mset_n (by first | assumption | exact Ne.symm (by assumption) | exact ne_fr (by assumption) (by assumption) | exact Ne.symm (ne_fr (by assumption) (by assumption)))).trans ?_; first | assumption | exact mset_s | exact Rep.raw (by assumption) (by assumption) | (refine (mset_n (by first | assumption | exact Ne.symm (by assumption) | exact ne_fr (by assumption) (by assumption) | exact Ne.symm (ne_fr (by assumption) (by assumption)))).trans ?_; assumption)))))))) (by first | assumption | exact ix_D (by first | assumption | omega) (by first | assumption | omega)) ?_
        refine b_iload_n dX11_collect_34 rfl ?_
        refine b_icmp_gt (tgt := 76) dX11_collect_35 (by decide) (fun h35 => ?_) (fun h35 => ?_)
        · refine bB.locs rfl (skip (fun x h1 h2 h3 => ?_))
          rw [i_lt] at h35
          rw [i_le] at h1 h2
          have := kin_iff.mp h3
          omega
        · first | refine b_aload_n dX11_collect_38 rfl ?_ | refine b_aload_nN dX11_collect_38 rfl ?_
          refine b_getf dX11_collect_39 f11_9 (by first | assumption | exact mset_s | exact Rep.raw (by assumption) (by assumption) | (refine (mset_n (by first | assumption | exact Ne.symm (by assumption) | exact ne_fr (by assumption) (by assumption) | exact Ne.symm (ne_fr (by assumption) (by assumption)))).trans ?_; first | assumption | exact mset_s | exact Rep.raw (by assumption) (by assumption) | (refine (mset_n (by first | assumption | exact Ne.symm (by assumption) | exact ne_fr (by assumption) (by assumption) | exact Ne.symm (ne_fr (by assumption) (by assumption)))).trans ?_; first | assumption | exact mset_s | exact Rep.raw (by assumption) (by assumption) | (refine (mset_n (by first | assumption | exact Ne.symm (by assumption) | exact ne_fr (by assumption) (by assumption) | exact Ne.symm (ne_fr (by assumption) (by assumption)))).trans ?_; first | assumption | exact mset_s | exact Rep.raw (by assumption) (by assumption) | (refine (mset_n (by first | assumption | exact Ne.symm (by assumption) | exact ne_fr (by assumption) (by assumption) | exact Ne.symm (ne_fr (by assumption) (by assumption)))).trans ?_; first | assumption | exact mset_s | exact Rep.raw (by assumption) (by assumption) | (refine (mset_n (by first | assumption | exact Ne.symm (by assumption) | exact ne_fr (by assumption) (by assumption) | exact Ne.symm (ne_fr (by assumption) (by assumption)))).trans ?_; first | assumption | exact mset_s | exact Rep.raw (by assumption) (by assumption) | (refine (mset_n (by first | assumption | exact Ne.symm (by assumption) | exact ne_fr (by assumption) (by assumption) | exact Ne.symm (ne_fr (by assumption) (by assumption)))).trans ?_; first | assumption | exact mset_s | exact Rep.raw (by assumption) (by assumption) | (refine (mset_n (by first | assumption | exact Ne.symm (by assumption) | exact ne_fr (by assumption) (by assumption) | exact Ne.symm (ne_fr (by assumption) (by assumption)))).trans ?_; assumption)))))))) rfl ?_
          refine b_iload dX11_collect_42 rfl ?_
          refine b_ldc dX11_collect_44 q466 ?_
          refine b_callA (As := [.ref cp, .int (nI j), .int 2147483647]) (rest := []) s11_36 dX11_collect_46 rfl rfl (fun ci hci => by cases hci; exact ⟨_, _, _, rfl, by first | assumption | exact mset_s | exact Rep.raw (by assumption) (by assumption) | (refine (mset_n (by first | assumption | exact Ne.symm (by assumption) | exact ne_fr (by assumption) (by assumption) | exact Ne.symm (ne_fr (by assumption) (by assumption)))).trans ?_; first | assumption | exact mset_s | exact Rep.raw (by assumption) (by assumption) | (refine (mset_n (by first | assumption | exact Ne.symm (by assumption) | exact ne_fr (by assumption) (by assumption) | exact Ne.symm (ne_fr (by assumption) (by assumption)))).trans ?_; first | assumption | exact mset_s | exact Rep.raw (by assumption) (by assumption) | (refine (mset_n (by first | assumption | exact Ne.symm (by assumption) | exact ne_fr (by assumption) (by assumption) | exact Ne.symm (ne_fr (by assumption) (by assumption)))).trans ?_; first | assumption | exact mset_s | exact Rep.raw (by assumption) (by assumption) | (refine (mset_n (by first | assumption | exact Ne.symm (by assumption) | exact ne_fr (by assumption) (by assumption) | exact Ne.symm (ne_fr (by assumption) (by assumption)))).trans ?_; first | assumption | exact mset_s | exact Rep.raw (by assumption) (by assumption) | (refine (mset_n (by first | assumption | exact Ne.symm (by assumption) | exact ne_fr (by assumption) (by assumption) | exact Ne.symm (ne_fr (by assumption) (by assumption)))).trans ?_; first | assumption | exact mset_s | exact Rep.raw (by assumption) (by assumption) | (refine (mset_n (by first | assumption | exact Ne.symm (by assumption) | exact ne_fr (by assumption) (by assumption) | exact Ne.symm (ne_fr (by assumption) (by assumption)))).trans ?_; first | assumption | exact mset_s | exact Rep.raw (by assumption) (by assumption) | (refine (mset_n (by first | assumption | exact Ne.symm (by assumption) | exact ne_fr (by assumption) (by assumption) | exact Ne.symm (ne_fr (by assumption) (by assumption)))).trans ?_; assumption)))))))⟩) (sp_high (d := d - 1) hpg0 (by rw [kA_len]; omega)) (by omega) (Nat.le_of_ble_eq_true rfl) ?_
          have hhi : c.2.1.toInt ≤ (hiP (kA ks) j 2147483647).toInt := by
            unfold hiP
            cases hq : ks[j + 1]? with
            | none =>
              have : (kA ks)[j + 1]? = none := by
                rw [List.getElem?_eq_none_iff] at hq ⊢
                rw [kA_len]; exact hq
              rw [this]
              dsimp only
              rw [max_int]
              exact le_max
            | some c' =>
              have hkid := hiP_kid w3 hc
              unfold hiP at hkid
              rw [kA_at hq] at hkid ⊢
              dsimp only at hkid ⊢
              rw [hkid]
              exact Int.le_refl _
          refine b_iload_n dX11_collect_49 rfl ?_
          refine b_icmp_lt (tgt := 76) dX11_collect_50 (by decide) (fun h50 => ?_) (fun h50 => ?_)
          · refine bB.locs rfl (skip (fun x h1 h2 h3 => ?_))
            rw [i_lt] at h50
            rw [i_le] at h1 h2
            have := kin_iff.mp h3
            omega
          · have hwj1 : wj.1 = w.1 := hsmj.1.trans hw01
            first | refine b_aload_n dX11_collect_53 rfl ?_ | refine b_aload_nN dX11_collect_53 rfl ?_
            refine b_getf dX11_collect_54 f11_9 (by first | assumption | exact mset_s | exact Rep.raw (by assumption) (by assumption) | (refine (mset_n (by first | assumption | exact Ne.symm (by assumption) | exact ne_fr (by assumption) (by assumption) | exact Ne.symm (ne_fr (by assumption) (by assumption)))).trans ?_; first | assumption | exact mset_s | exact Rep.raw (by assumption) (by assumption) | (refine (mset_n (by first | assumption | exact Ne.symm (by assumption) | exact ne_fr (by assumption) (by assumption) | exact Ne.symm (ne_fr (by assumption) (by assumption)))).trans ?_; first | assumption | exact mset_s | exact Rep.raw (by assumption) (by assumption) | (refine (mset_n (by first | assumption | exact Ne.symm (by assumption) | exact ne_fr (by assumption) (by assumption) | exact Ne.symm (ne_fr (by assumption) (by assumption)))).trans ?_; first | assumption | exact mset_s | exact Rep.raw (by assumption) (by assumption) | (refine (mset_n (by first | assumption | exact Ne.symm (by assumption) | exact ne_fr (by assumption) (by assumption) | exact Ne.symm (ne_fr (by assumption) (by assumption)))).trans ?_; first | assumption | exact mset_s | exact Rep.raw (by assumption) (by assumption) | (refine (mset_n (by first | assumption | exact Ne.symm (by assumption) | exact ne_fr (by assumption) (by assumption) | exact Ne.symm (ne_fr (by assumption) (by assumption)))).trans ?_; first | assumption | exact mset_s | exact Rep.raw (by assumption) (by assumption) | (refine (mset_n (by first | assumption | exact Ne.symm (by assumption) | exact ne_fr (by assumption) (by assumption) | exact Ne.symm (ne_fr (by assumption) (by assumption)))).trans ?_; first | assumption | exact mset_s | exact Rep.raw (by assumption) (by assumption) | (refine (mset_n (by first | assumption | exact Ne.symm (by assumption) | exact ne_fr (by assumption) (by assumption) | exact Ne.symm (ne_fr (by assumption) (by assumption)))).trans ?_; assumption)))))))) rfl ?_
            refine b_getf dX11_collect_57 f11_40 (by first | assumption | exact mset_s | exact Rep.raw (by assumption) (by assumption) | (refine (mset_n (by first | assumption | exact Ne.symm (by assumption) | exact ne_fr (by assumption) (by assumption) | exact Ne.symm (ne_fr (by assumption) (by assumption)))).trans ?_; first | assumption | exact mset_s | exact Rep.raw (by assumption) (by assumption) | (refine (mset_n (by first | assumption | exact Ne.symm (by assumption) | exact ne_fr (by assumption) (by assumption) | exact Ne.symm (ne_fr (by assumption) (by assumption)))).trans ?_; first | assumption | exact mset_s | exact Rep.raw (by assumption) (by assumption) | (refine (mset_n (by first | assumption | exact Ne.symm (by assumption) | exact ne_fr (by assumption) (by assumption) | exact Ne.symm (ne_fr (by assumption) (by assumption)))).trans ?_; first | assumption | exact mset_s | exact Rep.raw (by assumption) (by assumption) | (refine (mset_n (by first | assumption | exact Ne.symm (by assumption) | exact ne_fr (by assumption) (by assumption) | exact Ne.symm (ne_fr (by assumption) (by assumption)))).trans ?_; first | assumption | exact mset_s | exact Rep.raw (by assumption) (by assumption) | (refine (mset_n (by first | assumption | exact Ne.symm (by assumption) | exact ne_fr (by assumption) (by assumption) | exact Ne.symm (ne_fr (by assumption) (by assumption)))).trans ?_; first | assumption | exact mset_s | exact Rep.raw (by assumption) (by assumption) | (refine (mset_n (by first | assumption | exact Ne.symm (by assumption) | exact ne_fr (by assumption) (by assumption) | exact Ne.symm (ne_fr (by assumption) (by assumption)))).trans ?_; first | assumption | exact mset_s | exact Rep.raw (by assumption) (by assumption) | (refine (mset_n (by first | assumption | exact Ne.symm (by assumption) | exact ne_fr (by assumption) (by assumption) | exact Ne.symm (ne_fr (by assumption) (by assumption)))).trans ?_; assumption)))))))) rfl ?_
            refine b_iload dX11_collect_60 rfl ?_
            refine b_aald dX11_collect_62 (by first | assumption | exact mset_s | exact Rep.raw (by assumption) (by assumption) | (refine (mset_n (by first | assumption | exact Ne.symm (by assumption) | exact ne_fr (by assumption) (by assumption) | exact Ne.symm (ne_fr (by assumption) (by assumption)))).trans ?_; first | assumption | exact mset_s | exact Rep.raw (by assumption) (by assumption) | (refine (mset_n (by first | assumption | exact Ne.symm (by assumption) | exact ne_fr (by assumption) (by assumption) | exact Ne.symm (ne_fr (by assumption) (by assumption)))).trans ?_; first | assumption | exact mset_s | exact Rep.raw (by assumption) (by assumption) | (refine (mset_n (by first | assumption | exact Ne.symm (by assumption) | exact ne_fr (by assumption) (by assumption) | exact Ne.symm (ne_fr (by assumption) (by assumption)))).trans ?_; first | assumption | exact mset_s | exact Rep.raw (by assumption) (by assumption) | (refine (mset_n (by first | assumption | exact Ne.symm (by assumption) | exact ne_fr (by assumption) (by assumption) | exact Ne.symm (ne_fr (by assumption) (by assumption)))).trans ?_; first | assumption | exact mset_s | exact Rep.raw (by assumption) (by assumption) | (refine (mset_n (by first | assumption | exact Ne.symm (by assumption) | exact ne_fr (by assumption) (by assumption) | exact Ne.symm (ne_fr (by assumption) (by assumption)))).trans ?_; first | assumption | exact mset_s | exact Rep.raw (by assumption) (by assumption) | (refine (mset_n (by first | assumption | exact Ne.symm (by assumption) | exact ne_fr (by assumption) (by assumption) | exact Ne.symm (ne_fr (by assumption) (by assumption)))).trans ?_; first | assumption | exact mset_s | exact Rep.raw (by assumption) (by assumption) | (refine (mset_n (by first | assumption | exact Ne.symm (by assumption) | exact ne_fr (by assumption) (by assumption) | exact Ne.symm (ne_fr (by assumption) (by assumption)))).trans ?_; assumption)))))))) (by decide) (by first | assumption | exact ix_D (by first | assumption | omega) (by first | assumption | omega)) ?_
            refine b_iload_n dX11_collect_63 rfl ?_
            refine b_iload_n dX11_collect_64 rfl ?_
            first | refine b_aload dX11_collect_65 rfl ?_ | refine b_aloadN dX11_collect_65 rfl ?_
            first | refine b_aload dX11_collect_67 rfl ?_ | refine b_aloadN dX11_collect_67 rfl ?_
            refine b_iload dX11_collect_69 rfl ?_
            refine b_iconst (v := 1) dX11_collect_71 (by decide) ?_
            first | refine b_iaddK (c := 1) dX11_collect_72 (by decide) ?_ | refine b_iadd dX11_collect_72 ?_
            have hsub : ∀ x ∈ allT h c.2.2, x ∈ allT (h + 1) ((p, cp, cl), o, ks, ls, c1, c2) := fun x hx => List.mem_append_right _ (List.mem_flatMap.mpr ⟨c, hcm, hx⟩)
            have hsepj : ∀ x ∈ allT h c.2.2, ¬ wFp wj (dp + 1) x := by
              intro x hx hf
              rcases hsmj.fp hf with h' | h'
              · exact hsep0 x (hsub x hx) h'
              · obtain ⟨o', ho', -⟩ := Th.all_at _ _ hT1 x (hsub x hx)
                rw [h'] at ho'
                cases ho'
            have hentj : wj.2.2 0 dp = some (ra, c0) := by rw [hsmj.2.2.1 0 dp (Or.inr (by omega))]; exact hent
            have hcall := ih (d - 1) kc nc αj c.2.2 c.1 c.2.1 a b ra Rj cj wj (dp + 1) (hTj.2.2.2.2 c hcm) hcw hab hraj hcj hcj2 (by omega) hWj (by omega) (fun hx => (nall ra (hsub ra hx)).1 rfl) (hWj.notdeep (by omega) hentj (by omega)) hsepj (by omega) hknc (by omega) _ hRc
            rw [hwj1] at hcall
            refine b_call (As := [.ref (adr h c.2.2), .int a, .int b, .ref ra, .ref w.1, .int (nI (dp + 1))]) (rest := []) sColl dX11_collect_73 rfl rfl (fun ci hci => by cases hci; exact ⟨_, _, _, rfl, by first | assumption | exact mset_s | exact Rep.raw (by assumption) (by assumption) | (refine (mset_n (by first | assumption | exact Ne.symm (by assumption) | exact ne_fr (by assumption) (by assumption) | exact Ne.symm (ne_fr (by assumption) (by assumption)))).trans ?_; first | assumption | exact mset_s | exact Rep.raw (by assumption) (by assumption) | (refine (mset_n (by first | assumption | exact Ne.symm (by assumption) | exact ne_fr (by assumption) (by assumption) | exact Ne.symm (ne_fr (by assumption) (by assumption)))).trans ?_; first | assumption | exact mset_s | exact Rep.raw (by assumption) (by assumption) | (refine (mset_n (by first | assumption | exact Ne.symm (by assumption) | exact ne_fr (by assumption) (by assumption) | exact Ne.symm (ne_fr (by assumption) (by assumption)))).trans ?_; first | assumption | exact mset_s | exact Rep.raw (by assumption) (by assumption) | (refine (mset_n (by first | assumption | exact Ne.symm (by assumption) | exact ne_fr (by assumption) (by assumption) | exact Ne.symm (ne_fr (by assumption) (by assumption)))).trans ?_; first | assumption | exact mset_s | exact Rep.raw (by assumption) (by assumption) | (refine (mset_n (by first | assumption | exact Ne.symm (by assumption) | exact ne_fr (by assumption) (by assumption) | exact Ne.symm (ne_fr (by assumption) (by assumption)))).trans ?_; first | assumption | exact mset_s | exact Rep.raw (by assumption) (by assumption) | (refine (mset_n (by first | assumption | exact Ne.symm (by assumption) | exact ne_fr (by assumption) (by assumption) | exact Ne.symm (ne_fr (by assumption) (by assumption)))).trans ?_; first | assumption | exact mset_s | exact Rep.raw (by assumption) (by assumption) | (refine (mset_n (by first | assumption | exact Ne.symm (by assumption) | exact ne_fr (by assumption) (by assumption) | exact Ne.symm (ne_fr (by assumption) (by assumption)))).trans ?_; assumption)))))))⟩) (hcall) (by first | (rintro _ _ _ _ ⟨h, -⟩; exact ⟨_, h⟩) | (rintro _ _ _ _ ⟨_, h, -⟩; exact ⟨_, h⟩) | (rintro _ _ _ _ ⟨_, _, h, -⟩; exact ⟨_, h⟩) | (rintro _ _ _ _ ⟨_, _, _, h, -⟩; exact ⟨_, h⟩) | (rintro _ _ _ _ ⟨_, _, _, _, h, -⟩; exact ⟨_, h⟩)) (by omega) (Nat.le_of_ble_eq_true rfl) (fun v5 μ5 k5 n5 hk5 hn5 hQ5 => ?_)
            obtain ⟨α5, hR5, r5, c5, z1, w5', z2, z3, z4, z5, z6, z7, z8, z9, z10, z11⟩ := hQ5
            cases z1
            first | refine b_iincN dX11_collect_76 rfl (by decide) ?_ | refine b_iinc1 dX11_collect_76 rfl (by decide) ?_
            refine b_goto (tgt := 12) dX11_collect_79 (by decide) ?_
            have hdomj : ∀ x o, α0 x = some o → ∃ o', αj x = some o' := by
              intro x o' hx
              by_cases e : x = ra
              · exact ⟨_, e ▸ hraj⟩
              · by_cases e2 : wFp w0 (dp + 1) x
                · rcases e2 with ⟨kd, hk, e'⟩ | ⟨kd, i, c9, hk, hi, e'⟩
                  · have h7 := hWj.2.1 kd hk
                    rw [hsmj.2.1, ← e'] at h7
                    exact ⟨_, h7⟩
                  · obtain ⟨c8, h8⟩ := hsmj.2.2.2.1 kd i x c9 e'
                    obtain ⟨c7, h7⟩ := (hWj.2.2.1 kd i x c8 hk h8).1
                    obtain ⟨o9, ho9, -⟩ := h7.some
                    exact ⟨o9, ho9⟩
                · exact ⟨o', hfrj x o' hx e e2⟩
            refine bB.locs rfl (ihf (j + 1) c5 (Rj ++ r5) α5 w5' _ _ _ (by omega) (by omega) hR5 z2 z3 z4 z7 (hsmj.tr z8 hdomj) (fun x o' hx h1 h2 => z9 x o' (hfrj x o' hx h1 h2) h1 (fun hf => ?_)) ?_ (by rw [List.length_append, hks1]; omega) z11 (by omega))
            · rcases hsmj.fp hf with h' | h'
              · exact h2 h'
              · rw [hx] at h'; cases h'
            · rw [hsn]
              have hlow : ∀ p ∈ Rj, p.1.toInt < c.1.toInt := by
                intro p hp
                obtain ⟨-, -, h3⟩ := (hrng.2 p.1 p.2).mp hp
                obtain ⟨c', hc', h4, h5⟩ := dnk_in h3
                obtain ⟨m, h6, h7⟩ := chn.app.mp hchn
                have := h6.mem c' hc'
                have := h7.1
                omega
              have hhigh : ∀ q ∈ r5, kin q.1 c = true := by
                intro q hq
                obtain ⟨-, -, h3⟩ := (z5.2 q.1 q.2).mp hq
                rw [kin_iff]
                refine Classical.byContradiction (fun hne => ?_)
                rw [den_out h c.2.2 c.1 c.2.1 q.1 hcw (by rw [i_lt, i_lt]; omega)] at h3
                cases h3
              have hs : srt (Rj ++ r5) := hrng.1.app z5.1 (fun p hp q hq => by
                have h1 := hlow p hp
                have h2 := kin_iff.mp (hhigh q hq)
                rw [i_lt]
                omega)
              refine ⟨hs, fun x v => ?_⟩
              rw [List.mem_append, hrng.2, z5.2, dnk_snoc hchn]
              by_cases e : kin x c = true
              · rw [if_pos e]
                constructor
                · rintro (h1 | h1)
                  · exfalso
                    have h2 := hlow (x, v) ((hrng.2 x v).mpr h1)
                    have := kin_iff.mp e
                    dsimp only at h2
                    omega
                  · exact h1
                · exact Or.inr
              · rw [if_neg e]
                constructor
                · rintro (h1 | h1)
                  · exact h1
                  · exfalso
                    exact e (hhigh (x, v) ((z5.2 x v).mpr h1))
                · exact Or.inl
  first | refine b_astore dX11_collect_7 (by decide) ?_ | refine b_astoreN dX11_collect_7 (by decide) ?_
  refine b_iconst (v := 0) dX11_collect_9 (by decide) ?_
  refine b_istore dX11_collect_10 (by decide) ?_
  have hrng0 : isRng (dnk (den h) (ks.take 0)) a b [] := by
    refine isRng.of List.Pairwise.nil (fun x => ?_)
    rw [List.take_zero]
    show none = _
    split <;> rfl
  refine bB.locs rfl (lp1 (ks.length + 1) 0 c0 [] α0 w0 _ _ _ (by omega) (by omega) hR0 g1 g7 g8 (g2.deep (Nat.le_succ dp)) wSm.rf (fun x o hx _ _ => hx) hrng0 (by simp) g6 ?_)
  rw [List.take_zero, ksum_nil, hWr0]
  omega
theorem sp_coll : ∀ h, ColS g l h := by
  intro h
  induction h with
  | zero => exact col_leaf
  | succ h ih => exact col_node ih
end CL3
