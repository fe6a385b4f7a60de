/-! Inner.take: the contract, at every height -/
set_option maxRecDepth 100000
theorem mine_pre {G T P Kp X Kx I Pm W n M : Nat} (hn : ((G + T) + P + Kp) + (X + Kx) + (I + Pm) + W ≤ n) (hG : G = 104 + 8 * M) : 104 + 8 * M ≤ n := by omega
theorem le_as4 {a n' x y z u : Nat} (h : a ≤ n' + (x + y + z + u)) : a ≤ n' + (x + y) + z + u := by omega
section NT3
variable {g : Cx} {l : Launch}
theorem tak_node {h : Nat} (ih : TakS g l h) : TakS g l (h + 1) := by
  intro d k n α t lo hi now La cL ms w dp Fz hP hLa hmq hls hLo hLw hwt hnr hn hkn hd μ hR
  obtain ⟨⟨p, cp, cl⟩, o, ks, ls, c1, c2⟩ := t
  have hP0 := hP
  obtain ⟨hT, hw, hlh, hF, hnd, hof, hfd, hW, hdp, how, hfw⟩ := hP
  obtain ⟨w1, w2, w3, w4, w5, w6, w7, w8, w9, w10⟩ := hw
  have hd1 : d - 1 + 1 ≤ d := by omega
  have hd3 : 3 ≤ d - 1 := by omega
  have hPg : Pg now (h + 1) (mkN p cp cl o ks ls c1 c2) = ((if o = now then (8 * ks.length - 4 * c1) + (96 - 2 * c2) else 104 + 8 * ks.length) + 104 * (max 4 ks.length - 4)) + (39 + 4 * h) * puts ls + ksum (fun c : Kid h => Pg now h c.2.2) ks := rfl
  have hXr : Xr (h + 1) (mkN p cp cl o ks ls c1 c2) = xs h ks (ls.map (·.2)) + ksum (fun c : Kid h => Xr h c.2.2) ks := by
    show ksum (xl h ks) ls + _ = _
    rw [xs_ls]
  have hinc : inc (h + 1) (lo, hi, mkN p cp cl o ks ls c1 c2) ms = ksum (incX (h + 1) (lo, hi, mkN p cp cl o ks ls c1 c2)) ms + (39 + 4 * (h + 1)) * puts ms := rfl
  have hn0 : Pg now (h + 1) (mkN p cp cl o ks ls c1 c2) + Xr (h + 1) (mkN p cp cl o ks ls c1 c2) + inc (h + 1) (lo, hi, mkN p cp cl o ks ls c1 c2) ms + Wt w (h + 1) dp ≤ n := hn
  have hnn := hn0
  rw [hPg, hXr, hinc] at hnn
  have hlen := len_pn (ms := ms)
  have hxs := inc_xs (p := p) (cp := cp) (cl := cl) (c1 := c1) (c2 := c2) (o := o) (ls := ls) w3 w10 hls
  have hms : ms.length ≤ 3000 := by
    have : puts ms ≤ 2560 := Nat.le_trans (Nat.le_add_left _ _) hwt
    clear hn hn0 hnn hxs
    omega
  obtain ⟨rL, rsL, mL1, -⟩ := hR.let hLa
  obtain ⟨m1, -⟩ := hT.nodeC hR
  show Ms g l d k n M11_take _ μ _
  refine Ms.of (M := M11_take) rfl rfl (Nat.le_of_ble_eq_true rfl) ?_
  first | refine b_aload_n dX11_take_0 rfl ?_ | refine b_aload_nN dX11_take_0 rfl ?_
  refine b_iload_n dX11_take_1 rfl ?_
  refine b_call (As := [.ref p, .int now]) (rest := []) s11_105 dX11_take_2 rfl rfl (fun ci hci => by cases hci; exact ⟨_, _, _, rfl, by first | assumption | exact mset_s | exact Rep.raw (by assumption) (by assumption) | (refine (mset_n (by first | assumption | exact Ne.symm (by assumption) | exact ne_fr (by assumption) (by assumption) | exact Ne.symm (ne_fr (by assumption) (by assumption)))).trans ?_; first | assumption | exact mset_s | exact Rep.raw (by assumption) (by assumption) | (refine (mset_n (by first | assumption | exact Ne.symm (by assumption) | exact ne_fr (by assumption) (by assumption) | exact Ne.symm (ne_fr (by assumption) (by assumption)))).trans ?_; first | assumption | exact mset_s | exact Rep.raw (by assumption) (by assumption) | (refine (mset_n (by first | assumption | exact Ne.symm (by assumption) | exact ne_fr (by assumption) (by assumption) | exact Ne.symm (ne_fr (by assumption) (by assumption)))).trans ?_; first | assumption | exact mset_s | exact Rep.raw (by assumption) (by assumption) | (refine (mset_n (by first | assumption | exact Ne.symm (by assumption) | exact ne_fr (by assumption) (by assumption) | exact Ne.symm (ne_fr (by assumption) (by assumption)))).trans ?_; first | assumption | exact mset_s | exact Rep.raw (by assumption) (by assumption) | (refine (mset_n (by first | assumption | exact Ne.symm (by assumption) | exact ne_fr (by assumption) (by assumption) | exact Ne.symm (ne_fr (by assumption) (by assumption)))).trans ?_; first | assumption | exact mset_s | exact Rep.raw (by assumption) (by assumption) | (refine (mset_n (by first | assumption | exact Ne.symm (by assumption) | exact ne_fr (by assumption) (by assumption) | exact Ne.symm (ne_fr (by assumption) (by assumption)))).trans ?_; first | assumption | exact mset_s | exact Rep.raw (by assumption) (by assumption) | (refine (mset_n (by first | assumption | exact Ne.symm (by assumption) | exact ne_fr (by assumption) (by assumption) | exact Ne.symm (ne_fr (by assumption) (by assumption)))).trans ?_; assumption)))))))⟩) (sp_mine (d := d - 1) hT w1 w2 w4 w6 w8 (fun ho => mine_pre hnn (if_neg ho)) hkn hd3 _ hR) (by first | (rintro _ _ _ _ ⟨h, -⟩; exact ⟨_, h⟩) | (rintro _ _ _ _ ⟨_, h, -⟩; exact ⟨_, h⟩) | (rintro _ _ _ _ ⟨_, _, h, -⟩; exact ⟨_, h⟩) | (rintro _ _ _ _ ⟨_, _, _, h, -⟩; exact ⟨_, h⟩) | (rintro _ _ _ _ ⟨_, _, _, _, h, -⟩; exact ⟨_, h⟩)) (by first | assumption | omega) (Nat.le_of_ble_eq_true rfl) (fun v1 μ1 k1 n1 hk1 hn1 hQ1 => ?_)
  obtain ⟨α1, hR1, p', z1, cp', cl', c1', c2', hT1, he, hkn1, h4, h8, hcase⟩ := hQ1
  cases z1
  have hpre : 4 * (ls.length + ms.length) ≤ n1 + 2 * c2' := by
    refine tk_pre (Pm := (39 + 4 * h) * puts ms) (Pm' := (39 + 4 * (h + 1)) * puts ms) (pm := puts ms) (rm := nR ms) (c1 := c1) (c2 := c2) (c1' := c1') w1 w4 hlen hxs (by rw [show 39 + 4 * (h + 1) = (39 + 4 * h) + 4 by omega, Nat.add_mul]) ?_ hnn
    rcases hcase with ⟨h1, -, -, -, e5, e6, -, e8⟩ | ⟨h1, -, -, -, -, -, -, e8, e9, e10⟩
    · exact Or.inl ⟨e8, e5, e6, if_pos h1⟩
    · exact Or.inr ⟨e8, e9, e10, if_neg h1⟩
  have hcl1 : α1 cl' = some (oL (ls.map (·.1)) c2') := hT1.2.2.1
  have hLcl : La ≠ cl' := by
    rcases hcase with ⟨h1, -, -, rfl, -⟩ | ⟨-, -, -, a3, -⟩
    · intro e
      refine hLo ?_
      show La ∈ (if o = now then [p, cp, cl'] else []) ++ _
      rw [if_pos h1, e]
      simp
    · intro e
      rw [e, a3] at hLa; cases hLa
  have hc2b : c2' ≤ 20000 := by
    rcases hcase with ⟨-, -, -, -, -, e6, -⟩ | ⟨-, -, -, -, -, -, -, -, -, e10⟩
    · rw [e6]; exact w9
    · clear hn hn0 hnn hxs hpre
      omega
  first | refine b_astore dX11_take_5 (by decide) ?_ | refine b_astoreN dX11_take_5 (by decide) ?_
  refine b_iconst (v := 0) dX11_take_7 (by decide) ?_
  refine b_istore dX11_take_8 (by decide) ?_
  have lp : ∀ (f j cj : Nat) (μc : Mem) (kc nc : Nat), ms.length - j < f → j ≤ ms.length → Rep (aset α1 cl' (oL (ls.map (·.1) ++ (ms.take j).map (·.1)) cj)) μc → gL c2' k1 n1 cj kc nc (ls.length + ms.length) →
      bB g l M11_take d (fun o' μ' k' n' => ∃ α', Rep α' μ' ∧ ∃ ca cc, o' = .returned (some (.ref ca)) ∧ ∃ ts w', Rst α Fz now lo hi w dp (h + 1) (mkN p cp cl o ks ls c1 c2) (fun x => effs (ms.map (·.2)) x (den (h + 1) (mkN p cp cl o ks ls c1 c2) x)) (wt (h + 1) (mkN p cp cl o ks ls c1 c2) + puts ms) (Xr (h + 1) (mkN p cp cl o ks ls c1 c2) + ksum (incX (h + 1) (lo, hi, mkN p cp cl o ks ls c1 c2)) ms) α' w' ca cc ts ∧ n + (ksum (fun c : Kid (h + 1) => Pg now (h + 1) c.2.2) ts + ksum (fun c : Kid (h + 1) => Xr (h + 1) c.2.2) ts) + 112 * (ts.length - 1) + Wt w' (h + 1) dp ≤ n' + (Pg now (h + 1) (mkN p cp cl o ks ls c1 c2) + Xr (h + 1) (mkN p cp cl o ks ls c1 c2) + inc (h + 1) (lo, hi, mkN p cp cl o ks ls c1 c2) ms + Wt w (h + 1) dp) ∧ n' ≤ 4 * k')
        10 [(1, .ref La), (2, .int now), (3, .int lo), (4, .int hi), (5, .ref w.1), (6, .int (nI dp)), (7, .ref p'), (8, .int (nI j))] [] μc kc nc := by
    have hnX : Pg now (h + 1) (mkN p cp cl o ks ls c1 c2) + Xr (h + 1) (mkN p cp cl o ks ls c1 c2) + inc (h + 1) (lo, hi, mkN p cp cl o ks ls c1 c2) ms + Wt w (h + 1) dp ≤ n := hn0
    generalize hY : Pg now (h + 1) (mkN p cp cl o ks ls c1 c2) + Xr (h + 1) (mkN p cp cl o ks ls c1 c2) + inc (h + 1) (lo, hi, mkN p cp cl o ks ls c1 c2) ms + Wt w (h + 1) dp = Y at *
    clear hn hn0 hnn hxs
    intro f
    induction f with
    | zero => intro j cj μc kc nc h; omega
    | succ f ihf =>
      intro j cj μc kc nc hf hj hRc hg
      have hLaj : aset α1 cl' (oL (ls.map (·.1) ++ (ms.take j).map (·.1)) cj) La = some (oL (ms.map (·.1)) cL) := (aset_n hLcl).trans (he _ _ hLa)
      have hclj : aset α1 cl' (oL (ls.map (·.1) ++ (ms.take j).map (·.1)) cj) cl' = some (oL (ls.map (·.1) ++ (ms.take j).map (·.1)) cj) := aset_s
      have hpcl : p' ≠ cl' := fun e => by
        have := hT1.1
        rw [e, hcl1] at this; cases this
      have hpj := hRc.raw ((aset_n hpcl).trans hT1.1)
      obtain ⟨r, rs, m2, m3, e1, hle, hcap, ht⟩ := hRc.let hLaj
      rw [List.length_map] at m2 hle ht
      have hcap' : cL ≤ 1000000 := hcap
      obtain ⟨r6, rs6, m6, -⟩ := hRc.let hclj
      have hg' := hg
      unfold gL at hg'
      have hl2 : (ls.map (·.1) ++ (ms.take j).map (·.1)).length = ls.length + j := by simp; omega
      refine b_iload dX11_take_10 rfl ?_
      first | refine b_aload_n dX11_take_12 rfl ?_ | refine b_aload_nN dX11_take_12 rfl ?_
      refine b_getf dX11_take_13 f11_48 (by first | assumption | exact mset_s | exact Rep.raw (by assumption) (by assumption) | (refine (mset_n (by first | assumption | exact Ne.symm (by assumption) | exact ne_fr (by assumption) (by assumption) | exact Ne.symm (ne_fr (by assumption) (by assumption)))).trans ?_; first | assumption | exact mset_s | exact Rep.raw (by assumption) (by assumption) | (refine (mset_n (by first | assumption | exact Ne.symm (by assumption) | exact ne_fr (by assumption) (by assumption) | exact Ne.symm (ne_fr (by assumption) (by assumption)))).trans ?_; first | assumption | exact mset_s | exact Rep.raw (by assumption) (by assumption) | (refine (mset_n (by first | assumption | exact Ne.symm (by assumption) | exact ne_fr (by assumption) (by assumption) | exact Ne.symm (ne_fr (by assumption) (by assumption)))).trans ?_; first | assumption | exact mset_s | exact Rep.raw (by assumption) (by assumption) | (refine (mset_n (by first | assumption | exact Ne.symm (by assumption) | exact ne_fr (by assumption) (by assumption) | exact Ne.symm (ne_fr (by assumption) (by assumption)))).trans ?_; first | assumption | exact mset_s | exact Rep.raw (by assumption) (by assumption) | (refine (mset_n (by first | assumption | exact Ne.symm (by assumption) | exact ne_fr (by assumption) (by assumption) | exact Ne.symm (ne_fr (by assumption) (by assumption)))).trans ?_; first | assumption | exact mset_s | exact Rep.raw (by assumption) (by assumption) | (refine (mset_n (by first | assumption | exact Ne.symm (by assumption) | exact ne_fr (by assumption) (by assumption) | exact Ne.symm (ne_fr (by assumption) (by assumption)))).trans ?_; first | assumption | exact mset_s | exact Rep.raw (by assumption) (by assumption) | (refine (mset_n (by first | assumption | exact Ne.symm (by assumption) | exact ne_fr (by assumption) (by assumption) | exact Ne.symm (ne_fr (by assumption) (by assumption)))).trans ?_; assumption)))))))) rfl ?_
      refine b_icmp_ge (tgt := 40) dX11_take_16 (by decide) (fun h16 => ?_) (fun h16 => ?_)
      · rw [nI_leI (by omega) (by omega)] at h16
        have e : j = ms.length := by omega
        subst e
        rw [List.take_length, ← List.map_append] at hRc
        have hst := tk_start (g := g) (l := l) (La := La) (cL := cL) (k := k) hP0 hmq hls hwt hnr (by rw [hY]; exact hnX) hT1 he h4 h8 hcase rfl hg (by omega) rfl
        rw [hY] at hst
        exact bB.locs rfl (lp_take (d := d) ih hlh (by omega) _ _ _ w ks (ls ++ ms) c1' cj _ _ _ (Nat.lt_succ_self _) hRc rfl hst)
      · rw [nI_leI (by omega) (by omega)] at h16
        obtain ⟨q, hq⟩ := at_of (l := ms) (j := j) (by omega)
        have hqm := List.mem_of_getElem? hq
        have hq1 : rs[j]? = some (some q.1) := by
          have : (rs.take ms.length)[j]? = some (some q.1) := by rw [ht, List.getElem?_map, List.getElem?_map, hq]; rfl
          rwa [List.getElem?_take, if_pos (by omega)] at this
        have hix : ix rs (nI j) = some (some q.1) := by rw [ix_n (by omega)]; exact hq1
        have hraw : ∀ x m, α1 x = some (oW (mC m)) → aset α1 cl' (oL (ls.map (·.1) ++ (ms.take j).map (·.1)) cj) x = some (oW (mC m)) := fun x m hx => raw_set hcl1 oL_ne hx
        have hqa := hraw _ _ (he _ _ (hmq q hqm))
        have hall : allM (aset α1 cl' (oL (ls.map (·.1) ++ (ms.take j).map (·.1)) cj)) (ls.map (·.1) ++ (ms.take j).map (·.1)) := by
          intro x hx
          rcases List.mem_append.mp hx with hx | hx
          · obtain ⟨q', hq', rfl⟩ := List.mem_map.mp hx
            exact ⟨_, hraw _ _ (hT1.2.2.2.1 q' hq')⟩
          · obtain ⟨q', hq', rfl⟩ := List.mem_map.mp hx
            exact ⟨_, hraw _ _ (he _ _ (hmq q' (List.mem_of_mem_take hq')))⟩
        first | refine b_aload dX11_take_19 rfl ?_ | refine b_aloadN dX11_take_19 rfl ?_
        refine b_getf dX11_take_21 f11_15 (by first | assumption | exact mset_s | exact Rep.raw (by assumption) (by assumption) | (refine (mset_n (by first | assumption | exact Ne.symm (by assumption) | exact ne_fr (by assumption) (by assumption) | exact Ne.symm (ne_fr (by assumption) (by assumption)))).trans ?_; first | assumption | exact mset_s | exact Rep.raw (by assumption) (by assumption) | (refine (mset_n (by first | assumption | exact Ne.symm (by assumption) | exact ne_fr (by assumption) (by assumption) | exact Ne.symm (ne_fr (by assumption) (by assumption)))).trans ?_; first | assumption | exact mset_s | exact Rep.raw (by assumption) (by assumption) | (refine (mset_n (by first | assumption | exact Ne.symm (by assumption) | exact ne_fr (by assumption) (by assumption) | exact Ne.symm (ne_fr (by assumption) (by assumption)))).trans ?_; first | assumption | exact mset_s | exact Rep.raw (by assumption) (by assumption) | (refine (mset_n (by first | assumption | exact Ne.symm (by assumption) | exact ne_fr (by assumption) (by assumption) | exact Ne.symm (ne_fr (by assumption) (by assumption)))).trans ?_; first | assumption | exact mset_s | exact Rep.raw (by assumption) (by assumption) | (refine (mset_n (by first | assumption | exact Ne.symm (by assumption) | exact ne_fr (by assumption) (by assumption) | exact Ne.symm (ne_fr (by assumption) (by assumption)))).trans ?_; first | assumption | exact mset_s | exact Rep.raw (by assumption) (by assumption) | (refine (mset_n (by first | assumption | exact Ne.symm (by assumption) | exact ne_fr (by assumption) (by assumption) | exact Ne.symm (ne_fr (by assumption) (by assumption)))).trans ?_; first | assumption | exact mset_s | exact Rep.raw (by assumption) (by assumption) | (refine (mset_n (by first | assumption | exact Ne.symm (by assumption) | exact ne_fr (by assumption) (by assumption) | exact Ne.symm (ne_fr (by assumption) (by assumption)))).trans ?_; assumption)))))))) rfl ?_
        first | refine b_aload_n dX11_take_24 rfl ?_ | refine b_aload_nN dX11_take_24 rfl ?_
        refine b_getf dX11_take_25 f11_51 (by first | assumption | exact mset_s | exact Rep.raw (by assumption) (by assumption) | (refine (mset_n (by first | assumption | exact Ne.symm (by assumption) | exact ne_fr (by assumption) (by assumption) | exact Ne.symm (ne_fr (by assumption) (by assumption)))).trans ?_; first | assumption | exact mset_s | exact Rep.raw (by assumption) (by assumption) | (refine (mset_n (by first | assumption | exact Ne.symm (by assumption) | exact ne_fr (by assumption) (by assumption) | exact Ne.symm (ne_fr (by assumption) (by assumption)))).trans ?_; first | assumption | exact mset_s | exact Rep.raw (by assumption) (by assumption) | (refine (mset_n (by first | assumption | exact Ne.symm (by assumption) | exact ne_fr (by assumption) (by assumption) | exact Ne.symm (ne_fr (by assumption) (by assumption)))).trans ?_; first | assumption | exact mset_s | exact Rep.raw (by assumption) (by assumption) | (refine (mset_n (by first | assumption | exact Ne.symm (by assumption) | exact ne_fr (by assumption) (by assumption) | exact Ne.symm (ne_fr (by assumption) (by assumption)))).trans ?_; first | assumption | exact mset_s | exact Rep.raw (by assumption) (by assumption) | (refine (mset_n (by first | assumption | exact Ne.symm (by assumption) | exact ne_fr (by assumption) (by assumption) | exact Ne.symm (ne_fr (by assumption) (by assumption)))).trans ?_; first | assumption | exact mset_s | exact Rep.raw (by assumption) (by assumption) | (refine (mset_n (by first | assumption | exact Ne.symm (by assumption) | exact ne_fr (by assumption) (by assumption) | exact Ne.symm (ne_fr (by assumption) (by assumption)))).trans ?_; first | assumption | exact mset_s | exact Rep.raw (by assumption) (by assumption) | (refine (mset_n (by first | assumption | exact Ne.symm (by assumption) | exact ne_fr (by assumption) (by assumption) | exact Ne.symm (ne_fr (by assumption) (by assumption)))).trans ?_; assumption)))))))) rfl ?_
        refine b_iload dX11_take_28 rfl ?_
        refine b_aald dX11_take_30 (by first | assumption | exact mset_s | exact Rep.raw (by assumption) (by assumption) | (refine (mset_n (by first | assumption | exact Ne.symm (by assumption) | exact ne_fr (by assumption) (by assumption) | exact Ne.symm (ne_fr (by assumption) (by assumption)))).trans ?_; first | assumption | exact mset_s | exact Rep.raw (by assumption) (by assumption) | (refine (mset_n (by first | assumption | exact Ne.symm (by assumption) | exact ne_fr (by assumption) (by assumption) | exact Ne.symm (ne_fr (by assumption) (by assumption)))).trans ?_; first | assumption | exact mset_s | exact Rep.raw (by assumption) (by assumption) | (refine (mset_n (by first | assumption | exact Ne.symm (by assumption) | exact ne_fr (by assumption) (by assumption) | exact Ne.symm (ne_fr (by assumption) (by assumption)))).trans ?_; first | assumption | exact mset_s | exact Rep.raw (by assumption) (by assumption) | (refine (mset_n (by first | assumption | exact Ne.symm (by assumption) | exact ne_fr (by assumption) (by assumption) | exact Ne.symm (ne_fr (by assumption) (by assumption)))).trans ?_; first | assumption | exact mset_s | exact Rep.raw (by assumption) (by assumption) | (refine (mset_n (by first | assumption | exact Ne.symm (by assumption) | exact ne_fr (by assumption) (by assumption) | exact Ne.symm (ne_fr (by assumption) (by assumption)))).trans ?_; first | assumption | exact mset_s | exact Rep.raw (by assumption) (by assumption) | (refine (mset_n (by first | assumption | exact Ne.symm (by assumption) | exact ne_fr (by assumption) (by assumption) | exact Ne.symm (ne_fr (by assumption) (by assumption)))).trans ?_; first | assumption | exact mset_s | exact Rep.raw (by assumption) (by assumption) | (refine (mset_n (by first | assumption | exact Ne.symm (by assumption) | exact ne_fr (by assumption) (by assumption) | exact Ne.symm (ne_fr (by assumption) (by assumption)))).trans ?_; assumption)))))))) (by decide) (by first | assumption | exact ix_D (by first | assumption | omega) (by first | assumption | omega)) ?_
        refine b_call (As := [.ref cl', .ref q.1]) (rest := []) s11_100 dX11_take_31 rfl rfl (fun ci hci => by cases hci; exact ⟨_, _, _, rfl, by first | assumption | exact mset_s | exact Rep.raw (by assumption) (by assumption) | (refine (mset_n (by first | assumption | exact Ne.symm (by assumption) | exact ne_fr (by assumption) (by assumption) | exact Ne.symm (ne_fr (by assumption) (by assumption)))).trans ?_; first | assumption | exact mset_s | exact Rep.raw (by assumption) (by assumption) | (refine (mset_n (by first | assumption | exact Ne.symm (by assumption) | exact ne_fr (by assumption) (by assumption) | exact Ne.symm (ne_fr (by assumption) (by assumption)))).trans ?_; first | assumption | exact mset_s | exact Rep.raw (by assumption) (by assumption) | (refine (mset_n (by first | assumption | exact Ne.symm (by assumption) | exact ne_fr (by assumption) (by assumption) | exact Ne.symm (ne_fr (by assumption) (by assumption)))).trans ?_; first | assumption | exact mset_s | exact Rep.raw (by assumption) (by assumption) | (refine (mset_n (by first | assumption | exact Ne.symm (by assumption) | exact ne_fr (by assumption) (by assumption) | exact Ne.symm (ne_fr (by assumption) (by assumption)))).trans ?_; first | assumption | exact mset_s | exact Rep.raw (by assumption) (by assumption) | (refine (mset_n (by first | assumption | exact Ne.symm (by assumption) | exact ne_fr (by assumption) (by assumption) | exact Ne.symm (ne_fr (by assumption) (by assumption)))).trans ?_; first | assumption | exact mset_s | exact Rep.raw (by assumption) (by assumption) | (refine (mset_n (by first | assumption | exact Ne.symm (by assumption) | exact ne_fr (by assumption) (by assumption) | exact Ne.symm (ne_fr (by assumption) (by assumption)))).trans ?_; first | assumption | exact mset_s | exact Rep.raw (by assumption) (by assumption) | (refine (mset_n (by first | assumption | exact Ne.symm (by assumption) | exact ne_fr (by assumption) (by assumption) | exact Ne.symm (ne_fr (by assumption) (by assumption)))).trans ?_; assumption)))))))⟩) (sp_ladd' (d := d - 1) hclj hqa hall (N := ls.length + ms.length) (by omega) (by omega) (by omega) (by omega) (by omega) _ hRc) (by first | (rintro _ _ _ _ ⟨h, -⟩; exact ⟨_, h⟩) | (rintro _ _ _ _ ⟨_, h, -⟩; exact ⟨_, h⟩) | (rintro _ _ _ _ ⟨_, _, h, -⟩; exact ⟨_, h⟩) | (rintro _ _ _ _ ⟨_, _, _, h, -⟩; exact ⟨_, h⟩) | (rintro _ _ _ _ ⟨_, _, _, _, h, -⟩; exact ⟨_, h⟩)) (by first | assumption | omega) (Nat.le_of_ble_eq_true rfl) (fun v5 μ5 k5 n5 hk5 hn5 hQ5 => ?_)
        obtain ⟨α5, hR5, x1, c5, x2, x3⟩ := hQ5
        cases x1
        have e3 : ls.map (·.1) ++ (ms.take j).map (·.1) ++ [q.1] = ls.map (·.1) ++ (ms.take (j + 1)).map (·.1) := by rw [take_snoc hq, List.map_append, List.append_assoc]; rfl
        rw [aset2, e3] at x2
        subst x2
        first | refine b_iincN dX11_take_34 rfl (by decide) ?_ | refine b_iinc1 dX11_take_34 rfl (by decide) ?_
        refine b_goto (tgt := 10) dX11_take_37 (by decide) ?_
        exact bB.locs rfl (ihf (j + 1) c5 _ _ _ (by omega) (by omega) hR5 (hg.tr x3))
  refine bB.post ?_ (bB.locs rfl (lp (ms.length + 1) 0 c2' _ _ _ (by omega) (by omega) ?_ gL.rf))
  · rintro o' μ' k' n' ⟨α', e1, ca, cc, e2, ts, w', e3, e4, e5⟩
    refine ⟨α', e1, ca, cc, e2, ts, w', e3, ?_, e5⟩
    exact le_as4 e4
  · rw [List.take_zero, List.map_nil, List.append_nil, aset_id hcl1]
    exact hR1
theorem sp_takeP : ∀ h, TakS g l h := by
  intro h
  induction h with
  | zero => exact tak_leaf
  | succ h ih => exact tak_node ih
end NT3
