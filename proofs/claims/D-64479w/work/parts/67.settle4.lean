/-! Inner.settle: the contract, at every height -/
set_option maxRecDepth 100000
theorem st_zero {a n' x y u : Nat} (h : a ≤ n' + (x + y + 0 + u)) : a ≤ n' + (x + y) + u := by omega
theorem st_z2 {x y u n : Nat} (h : x + y + u ≤ n) : x + y + 0 + u ≤ n := by omega
theorem st_p3 {P X a b c W n : Nat} (h : P + X + (a + (b + (c + W))) ≤ n) : c ≤ n := by omega
theorem st_p4 {G T P Kp X W n M : Nat} (hn : ((G + T) + P + Kp) + X + W ≤ n) (hG : G = 104 + 8 * M) : 104 + 8 * M ≤ n := by omega
section ST4
variable {g : Cx} {l : Launch}
set_option maxHeartbeats 4000000 in
theorem set_node {h : Nat} (hh : 24 * (h + 1) ≤ 200) (ihs : SetS g l h) : SetS g l (h + 1) := by
  intro d k n α t lo hi now w dp Fz hP hwt hn hkn hd μ hR
  obtain ⟨⟨p, cp, cl⟩, o, ks, ls, c1, c2⟩ := t
  have hP0 := hP
  obtain ⟨hT, hw, hlh, hF, hnd, hof, hfd, hW, hdp, how, hfw⟩ := hP
  obtain ⟨w1, w2, w3, w4, w5, w6, w7, w8, w9, w10⟩ := hw
  have hd1 : d - 1 + 1 ≤ d := by omega
  have hdp16 : dp < 16 := by omega
  have hd2 : 2 ≤ d - 1 := by omega
  have hd3 : 3 ≤ d - 1 := by omega
  have hdq : h + 1 + 1 ≤ d - 1 := by omega
  have hd8 : 2 * h + 8 ≤ d := by omega
  have hWt : Wt w (h + 1) dp = psiK 1 (w.2.2 1 dp) + (psiK 2 (w.2.2 2 dp) + (psiK 3 (w.2.2 3 dp) + Wt w h (dp + 1))) := rfl
  have hψ : psiK 3 (w.2.2 3 dp) ≤ n := by
    rw [hWt] at hn
    exact st_p3 hn
  have hPg : Pg now (h + 1) (mkN p cp cl o ks ls c1 c2) = ((if o = now then (8 * ks.length - 4 * c1) + (96 - 2 * c2) else 104 + 8 * ks.length) + 104 * (max 4 ks.length - 4)) + (39 + 4 * h) * puts ls + ksum (fun c : Kid h => Pg now h c.2.2) ks := rfl
  have hnn : Pg now (h + 1) (mkN p cp cl o ks ls c1 c2) + Xr (h + 1) (mkN p cp cl o ks ls c1 c2) + Wt w (h + 1) dp ≤ n := hn
  rw [hPg] at hnn
  have mW := hW.flds hR
  obtain ⟨m1, -⟩ := hT.nodeC hR
  have hqt := sp_quiet (g := g) (l := l) (h + 1) (d - 1) k n α μ (mkN p cp cl o ks ls c1 c2) hT hR hdq
  show Ms g l d k n M11_settle _ μ _
  refine Ms.of (M := M11_settle) rfl rfl (Nat.le_of_ble_eq_true rfl) ?_
  first | refine b_aload_n dX11_settle_0 rfl ?_ | refine b_aload_nN dX11_settle_0 rfl ?_
  refine b_call (As := [.ref p]) (rest := []) s11_129 dX11_settle_1 rfl rfl (fun ci hci => by cases hci; exact ⟨_, _, _, rfl, by first | assumption | exact mset_s | exact Rep.raw (by assumption) (by assumption) | (refine (mset_n (by first | assumption | exact Ne.symm (by assumption) | exact ne_fr (by assumption) (by assumption) | exact Ne.symm (ne_fr (by assumption) (by assumption)))).trans ?_; first | assumption | exact mset_s | exact Rep.raw (by assumption) (by assumption) | (refine (mset_n (by first | assumption | exact Ne.symm (by assumption) | exact ne_fr (by assumption) (by assumption) | exact Ne.symm (ne_fr (by assumption) (by assumption)))).trans ?_; first | assumption | exact mset_s | exact Rep.raw (by assumption) (by assumption) | (refine (mset_n (by first | assumption | exact Ne.symm (by assumption) | exact ne_fr (by assumption) (by assumption) | exact Ne.symm (ne_fr (by assumption) (by assumption)))).trans ?_; first | assumption | exact mset_s | exact Rep.raw (by assumption) (by assumption) | (refine (mset_n (by first | assumption | exact Ne.symm (by assumption) | exact ne_fr (by assumption) (by assumption) | exact Ne.symm (ne_fr (by assumption) (by assumption)))).trans ?_; first | assumption | exact mset_s | exact Rep.raw (by assumption) (by assumption) | (refine (mset_n (by first | assumption | exact Ne.symm (by assumption) | exact ne_fr (by assumption) (by assumption) | exact Ne.symm (ne_fr (by assumption) (by assumption)))).trans ?_; first | assumption | exact mset_s | exact Rep.raw (by assumption) (by assumption) | (refine (mset_n (by first | assumption | exact Ne.symm (by assumption) | exact ne_fr (by assumption) (by assumption) | exact Ne.symm (ne_fr (by assumption) (by assumption)))).trans ?_; first | assumption | exact mset_s | exact Rep.raw (by assumption) (by assumption) | (refine (mset_n (by first | assumption | exact Ne.symm (by assumption) | exact ne_fr (by assumption) (by assumption) | exact Ne.symm (ne_fr (by assumption) (by assumption)))).trans ?_; assumption)))))))⟩) (hqt) (by first | (rintro _ _ _ _ ⟨h, -⟩; exact ⟨_, h⟩) | (rintro _ _ _ _ ⟨_, h, -⟩; exact ⟨_, h⟩) | (rintro _ _ _ _ ⟨_, _, h, -⟩; exact ⟨_, h⟩) | (rintro _ _ _ _ ⟨_, _, _, h, -⟩; exact ⟨_, h⟩) | (rintro _ _ _ _ ⟨_, _, _, _, h, -⟩; exact ⟨_, h⟩)) (by first | assumption | omega) (Nat.le_of_ble_eq_true rfl) (fun v0 μ0 k0 n0 hk0 hn0 hQ0 => ?_)
  obtain ⟨v, e1, hv, e2, e3, e4⟩ := hQ0
  cases e1
  have e2 := e2.symm
  have e3 := e3.symm
  have e4 := e4.symm
  subst e2; subst e3; subst e4
  refine b_if_eq (tgt := 20) dX11_settle_4 (by decide) (fun h4 => ?_) (fun h4 => ?_)
  · first | refine b_aload_n dX11_settle_20 rfl ?_ | refine b_aload_nN dX11_settle_20 rfl ?_
    refine b_iload_n dX11_settle_21 rfl ?_
    refine b_call (As := [.ref p, .int now]) (rest := []) s11_105 dX11_settle_22 rfl rfl (fun ci hci => by cases hci; exact ⟨_, _, _, rfl, by first | assumption | exact mset_s | exact Rep.raw (by assumption) (by assumption) | (refine (mset_n (by first | assumption | exact Ne.symm (by assumption) | exact ne_fr (by assumption) (by assumption) | exact Ne.symm (ne_fr (by assumption) (by assumption)))).trans ?_; first | assumption | exact mset_s | exact Rep.raw (by assumption) (by assumption) | (refine (mset_n (by first | assumption | exact Ne.symm (by assumption) | exact ne_fr (by assumption) (by assumption) | exact Ne.symm (ne_fr (by assumption) (by assumption)))).trans ?_; first | assumption | exact mset_s | exact Rep.raw (by assumption) (by assumption) | (refine (mset_n (by first | assumption | exact Ne.symm (by assumption) | exact ne_fr (by assumption) (by assumption) | exact Ne.symm (ne_fr (by assumption) (by assumption)))).trans ?_; first | assumption | exact mset_s | exact Rep.raw (by assumption) (by assumption) | (refine (mset_n (by first | assumption | exact Ne.symm (by assumption) | exact ne_fr (by assumption) (by assumption) | exact Ne.symm (ne_fr (by assumption) (by assumption)))).trans ?_; first | assumption | exact mset_s | exact Rep.raw (by assumption) (by assumption) | (refine (mset_n (by first | assumption | exact Ne.symm (by assumption) | exact ne_fr (by assumption) (by assumption) | exact Ne.symm (ne_fr (by assumption) (by assumption)))).trans ?_; first | assumption | exact mset_s | exact Rep.raw (by assumption) (by assumption) | (refine (mset_n (by first | assumption | exact Ne.symm (by assumption) | exact ne_fr (by assumption) (by assumption) | exact Ne.symm (ne_fr (by assumption) (by assumption)))).trans ?_; first | assumption | exact mset_s | exact Rep.raw (by assumption) (by assumption) | (refine (mset_n (by first | assumption | exact Ne.symm (by assumption) | exact ne_fr (by assumption) (by assumption) | exact Ne.symm (ne_fr (by assumption) (by assumption)))).trans ?_; assumption)))))))⟩) (sp_mine (d := d - 1) hT w1 w2 w4 w6 w8 (fun ho => st_p4 hnn (if_neg ho)) hkn hd3 _ hR) (by first | (rintro _ _ _ _ ⟨h, -⟩; exact ⟨_, h⟩) | (rintro _ _ _ _ ⟨_, h, -⟩; exact ⟨_, h⟩) | (rintro _ _ _ _ ⟨_, _, h, -⟩; exact ⟨_, h⟩) | (rintro _ _ _ _ ⟨_, _, _, h, -⟩; exact ⟨_, h⟩) | (rintro _ _ _ _ ⟨_, _, _, _, h, -⟩; exact ⟨_, h⟩)) (by first | assumption | omega) (Nat.le_of_ble_eq_true rfl) (fun v1 μ1 k1 n1 hk1 hn1 hQ1 => ?_)
    obtain ⟨α1, hR1, p', z1, cp', cl', c1', c2', hT1, he, hkn1, h4', h8, hcase⟩ := hQ1
    cases z1
    have hcl1 : α1 cl' = some (oL (ls.map (·.1)) c2') := hT1.2.2.1
    first | refine b_astore dX11_settle_25 (by decide) ?_ | refine b_astoreN dX11_settle_25 (by decide) ?_
    have hst := tk_start (g := g) (l := l) (La := 0) (cL := 0) (k := k) (ms := []) (c2'' := c2') (α2 := α1) (k1 := k1) (k2 := k1) (n2 := n1) hP0 (fun q hq => (by cases hq)) (fun q hq => (by cases hq)) hwt (by show 0 + 24 * (h + 1) ≤ 200; rw [Nat.zero_add]; exact hh) (st_z2 hn) hT1 he h4' h8 hcase (by rw [List.append_nil, aset_id hcl1]) gL.rf hkn1 rfl
    rw [List.append_nil] at hst
    have hst' : LpQ g l d α w now lo hi dp h (mkN p cp cl o ks ls c1 c2) (den (h + 1) (mkN p cp cl o ks ls c1 c2)) (wt (h + 1) (mkN p cp cl o ks ls c1 c2)) (Xr (h + 1) (mkN p cp cl o ks ls c1 c2)) p' cp' cl' n (Pg now (h + 1) (mkN p cp cl o ks ls c1 c2) + Xr (h + 1) (mkN p cp cl o ks ls c1 c2) + 0 + Wt w (h + 1) dp) Fz α1 w ks ls c1' c2' (max 24 (ls.length + 0)) k1 n1 := hst
    refine bB.post ?_ (bB.locs rfl (lp_set1 (d := d) (Q := (fun o' μ' k' n' => ∃ α', Rep α' μ' ∧ ∃ ca cc, o' = .returned (some (.ref ca)) ∧ ∃ ts w', Rst α Fz now lo hi w dp (h + 1) (mkN p cp cl o ks ls c1 c2) (den (h + 1) (mkN p cp cl o ks ls c1 c2)) (wt (h + 1) (mkN p cp cl o ks ls c1 c2)) (Xr (h + 1) (mkN p cp cl o ks ls c1 c2)) α' w' ca cc ts ∧ n + (ksum (fun c : Kid (h + 1) => Pg now (h + 1) c.2.2) ts + ksum (fun c : Kid (h + 1) => Xr (h + 1) c.2.2) ts) + 112 * (ts.length - 1) + Wt w' (h + 1) dp ≤ n' + (Pg now (h + 1) (mkN p cp cl o ks ls c1 c2) + Xr (h + 1) (mkN p cp cl o ks ls c1 c2) + 0 + Wt w (h + 1) dp) ∧ n' ≤ 4 * k')) (sp_takeP h) hd8 (fun αb μb wb ks' c1b c2b B kb nb hRb hwb hI => ?_) _ α1 _ w ks ls c1' c2' _ _ _ (Nat.lt_succ_self _) hR1 rfl hst'))
    · rintro o' μ' k' n' ⟨α', e1, ca, cc, e2, ts, w', e3, e4, e5⟩
      exact ⟨α', e1, ca, cc, e2, ts, w', e3, st_zero e4, e5⟩
    · refine b_iconst (v := 0) dX11_settle_58 (by decide) ?_
      refine b_istore dX11_settle_59 (by decide) ?_
      exact bB.locs rfl (lp_set2 (d := d) ihs hlh hd8 (ks'.length + 1) αb μb wb [] ks' c1b c2b B kb nb 0 (Nat.lt_succ_self _) rfl hRb hwb hI)
  · first | refine b_aload dX11_settle_7 rfl ?_ | refine b_aloadN dX11_settle_7 rfl ?_
    refine b_iload dX11_settle_9 rfl ?_
    refine b_call (As := [.ref w.1, .int (nI dp)]) (rest := []) s11_117 dX11_settle_11 rfl rfl (fun ci hci => by cases hci; exact ⟨_, _, _, rfl, by first | assumption | exact mset_s | exact Rep.raw (by assumption) (by assumption) | (refine (mset_n (by first | assumption | exact Ne.symm (by assumption) | exact ne_fr (by assumption) (by assumption) | exact Ne.symm (ne_fr (by assumption) (by assumption)))).trans ?_; first | assumption | exact mset_s | exact Rep.raw (by assumption) (by assumption) | (refine (mset_n (by first | assumption | exact Ne.symm (by assumption) | exact ne_fr (by assumption) (by assumption) | exact Ne.symm (ne_fr (by assumption) (by assumption)))).trans ?_; first | assumption | exact mset_s | exact Rep.raw (by assumption) (by assumption) | (refine (mset_n (by first | assumption | exact Ne.symm (by assumption) | exact ne_fr (by assumption) (by assumption) | exact Ne.symm (ne_fr (by assumption) (by assumption)))).trans ?_; first | assumption | exact mset_s | exact Rep.raw (by assumption) (by assumption) | (refine (mset_n (by first | assumption | exact Ne.symm (by assumption) | exact ne_fr (by assumption) (by assumption) | exact Ne.symm (ne_fr (by assumption) (by assumption)))).trans ?_; first | assumption | exact mset_s | exact Rep.raw (by assumption) (by assumption) | (refine (mset_n (by first | assumption | exact Ne.symm (by assumption) | exact ne_fr (by assumption) (by assumption) | exact Ne.symm (ne_fr (by assumption) (by assumption)))).trans ?_; first | assumption | exact mset_s | exact Rep.raw (by assumption) (by assumption) | (refine (mset_n (by first | assumption | exact Ne.symm (by assumption) | exact ne_fr (by assumption) (by assumption) | exact Ne.symm (ne_fr (by assumption) (by assumption)))).trans ?_; first | assumption | exact mset_s | exact Rep.raw (by assumption) (by assumption) | (refine (mset_n (by first | assumption | exact Ne.symm (by assumption) | exact ne_fr (by assumption) (by assumption) | exact Ne.symm (ne_fr (by assumption) (by assumption)))).trans ?_; assumption)))))))⟩) (sp_made (d := d - 1) hW (Nat.le_refl _) hdp16 hψ hkn hd2 _ hR) (by first | (rintro _ _ _ _ ⟨h, -⟩; exact ⟨_, h⟩) | (rintro _ _ _ _ ⟨_, h, -⟩; exact ⟨_, h⟩) | (rintro _ _ _ _ ⟨_, _, h, -⟩; exact ⟨_, h⟩) | (rintro _ _ _ _ ⟨_, _, _, h, -⟩; exact ⟨_, h⟩) | (rintro _ _ _ _ ⟨_, _, _, _, h, -⟩; exact ⟨_, h⟩)) (by first | assumption | omega) (Nat.le_of_ble_eq_true rfl) (fun v4 μ4 k4 n4 hk4 hn4 hQ4 => ?_)
    obtain ⟨α4, hR4, ca, cc, z1, hg⟩ := hQ4
    cases z1
    obtain ⟨q1, q2, -, q4, -⟩ := made_keep hW hg
    have g5 : n + (3200 - 4 * cc) ≤ n4 + psiK 3 (w.2.2 3 dp) := hg.2.2.2.2.1
    have g6 := hg.2.2.2.2.2.1
    have g7 : 4 ≤ cc := hg.2.2.2.2.2.2.1
    have g8 : cc ≤ 800 := hg.2.2.2.2.2.2.2.1
    obtain ⟨xx, yy, xxs, zzs, mca, -⟩ := hR4.pgs q1
    first | refine b_aload_n dX11_settle_14 rfl ?_ | refine b_aload_nN dX11_settle_14 rfl ?_
    refine b_iload_n dX11_settle_15 rfl ?_
    have hpp := st_pre g5 hψ g8 g6
    refine b_call (As := [.ref ca, .ref p, .int lo]) (rest := []) s11_96 dX11_settle_16 rfl rfl (fun ci hci => by cases hci; exact ⟨_, _, _, rfl, by first | assumption | exact mset_s | exact Rep.raw (by assumption) (by assumption) | (refine (mset_n (by first | assumption | exact Ne.symm (by assumption) | exact ne_fr (by assumption) (by assumption) | exact Ne.symm (ne_fr (by assumption) (by assumption)))).trans ?_; first | assumption | exact mset_s | exact Rep.raw (by assumption) (by assumption) | (refine (mset_n (by first | assumption | exact Ne.symm (by assumption) | exact ne_fr (by assumption) (by assumption) | exact Ne.symm (ne_fr (by assumption) (by assumption)))).trans ?_; first | assumption | exact mset_s | exact Rep.raw (by assumption) (by assumption) | (refine (mset_n (by first | assumption | exact Ne.symm (by assumption) | exact ne_fr (by assumption) (by assumption) | exact Ne.symm (ne_fr (by assumption) (by assumption)))).trans ?_; first | assumption | exact mset_s | exact Rep.raw (by assumption) (by assumption) | (refine (mset_n (by first | assumption | exact Ne.symm (by assumption) | exact ne_fr (by assumption) (by assumption) | exact Ne.symm (ne_fr (by assumption) (by assumption)))).trans ?_; first | assumption | exact mset_s | exact Rep.raw (by assumption) (by assumption) | (refine (mset_n (by first | assumption | exact Ne.symm (by assumption) | exact ne_fr (by assumption) (by assumption) | exact Ne.symm (ne_fr (by assumption) (by assumption)))).trans ?_; first | assumption | exact mset_s | exact Rep.raw (by assumption) (by assumption) | (refine (mset_n (by first | assumption | exact Ne.symm (by assumption) | exact ne_fr (by assumption) (by assumption) | exact Ne.symm (ne_fr (by assumption) (by assumption)))).trans ?_; first | assumption | exact mset_s | exact Rep.raw (by assumption) (by assumption) | (refine (mset_n (by first | assumption | exact Ne.symm (by assumption) | exact ne_fr (by assumption) (by assumption) | exact Ne.symm (ne_fr (by assumption) (by assumption)))).trans ?_; assumption)))))))⟩) (sp_padd' (d := d - 1) q1 (q4 p (hT.pg)).1 (fun q hq => by cases hq) (N := 400) (by simp) g7 (Nat.le_trans g8 (by decide)) hpp.1 hpp.2 _ hR4) (by first | (rintro _ _ _ _ ⟨h, -⟩; exact ⟨_, h⟩) | (rintro _ _ _ _ ⟨_, h, -⟩; exact ⟨_, h⟩) | (rintro _ _ _ _ ⟨_, _, h, -⟩; exact ⟨_, h⟩) | (rintro _ _ _ _ ⟨_, _, _, h, -⟩; exact ⟨_, h⟩) | (rintro _ _ _ _ ⟨_, _, _, _, h, -⟩; exact ⟨_, h⟩)) (by first | assumption | omega) (Nat.le_of_ble_eq_true rfl) (fun v5 μ5 k5 n5 hk5 hn5 hQ5 => ?_)
    obtain ⟨α5, hR5, x1, c5, x2, x3⟩ := hQ5
    cases x1
    unfold gP at x3
    refine b_aret dX11_settle_19 rfl (Or.inr ⟨_, rfl⟩) ?_
    have hc5 : 4 ≤ c5 ∧ c5 ≤ 800 ∧ n5 ≤ 4 * k5 := by
      clear hn hnn hψ g5 hpp hwt
      omega
    refine ⟨α5, hR5, ca, c5, rfl, [(lo, hi, mkN p cp cl o ks ls c1 c2)], wput w 3 dp (ca, c5), rst_same hP0 hg x2 hc5.1 hc5.2.1, ?_, hc5.2.2⟩
    rw [ksum_cons, ksum_nil, ksum_cons, ksum_nil, Wt_put, hWt]
    exact st_num1 g5 x3.2.2.1 x3.1 hc5.2.1
theorem sp_settleP : ∀ h, 24 * h ≤ 200 → SetS g l h := by
  intro h
  induction h with
  | zero => exact fun _ => set_leaf
  | succ h ih => exact fun hh => set_node hh (ih (Nat.le_trans (Nat.mul_le_mul_left 24 (Nat.le_succ h)) hh))
end ST4
