/-! the end of take and settle: made, parts -/
set_option maxRecDepth 100000
theorem fin_num1 {nb n4 n' cc c5 ψ1 ψ2 ψ3 W A c2 B C P X Kp Kx : Nat} (h1 : nb + (3200 - 4 * cc) ≤ n4 + ψ3) (h2 : n4 + (3200 - 4 * c5) = n' + (3200 - 4 * cc)) (hB : 24 ≤ B) : nb + ((A + (96 - 2 * c2) + C + P + Kp + 0) + (X + Kx + 0)) + 112 * (1 - 1) + (ψ1 + (ψ2 + ((3200 - 4 * c5) + W))) ≤ n' + (A + (4 * B - 2 * c2) + C + P + X + (Kp + Kx) + (ψ1 + (ψ2 + (ψ3 + W)))) := by omega
theorem fin_num2 {nb n4 n' cc c5 ψ1 ψ2 ψ3 W A Bz M q P X Kp Kx D N Np Nx : Nat} (h1 : nb + (3200 - 4 * cc) ≤ n4 + ψ3) (h2 : n4 + (3200 - 4 * c5) ≤ n' + (3200 - 4 * cc) + D + 4 * N) (h3 : Np + D + 328 * q ≤ 112 * M + P + Kp) (h4 : Nx + 4 * N ≤ Kx + X) (hM : M ≤ 8 * q) (hq : 2 ≤ q) (hM4 : 4 ≤ M) : nb + (Np + Nx) + 112 * (q - 1) + (ψ1 + (ψ2 + ((3200 - 4 * c5) + W))) ≤ n' + (A + Bz + 104 * (max 4 M - 4) + P + X + (Kp + Kx) + (ψ1 + (ψ2 + (ψ3 + W)))) := by omega
theorem fin_pre1 {nb n4 cc ψ1 ψ2 ψ3 W T : Nat} (h1 : nb + (3200 - 4 * cc) ≤ n4 + ψ3) (hT : T + (ψ1 + (ψ2 + (ψ3 + W))) ≤ nb) : 3200 - 4 * cc ≤ n4 := by omega
theorem fin_pre2 {nb n4 cc ψ1 ψ2 ψ3 W A Bz M q P X Kp Kx N Nx : Nat} (h1 : nb + (3200 - 4 * cc) ≤ n4 + ψ3) (hT : A + Bz + 104 * (max 4 M - 4) + P + X + (Kp + Kx) + (ψ1 + (ψ2 + (ψ3 + W))) ≤ nb) (h4 : Nx + 4 * N ≤ Kx + X) (hq : q = (M + 7) / 8) (hM : 8 < M) : 152 * q + 4 * N + (3200 - 4 * cc) ≤ n4 := by omega
theorem np_xnc {h q : Nat} {lo hi : Int32} {ks : List (Kid h)} {ls : List (Nat × Msg)} (hch : chn lo.toInt hi.toInt ks) (hwf : wfK ks) (hq : 0 < q) (hq4 : 4 * q ≤ ks.length) (hls : lsOk lo hi ls) : 0 + 4 * NC ks q (ls.map (·.2)) q ≤ ksum (fun c : Kid h => Xr h c.2.2) ks + xs h ks (ls.map (·.2)) := by
  have := np_xs hch hwf hq hq4 hls
  omega
section FNP
variable {g : Cx} {l : Launch} {d : Nat} {α αb α4 : AM} {w wb : WS} {now lo hi : Int32} {dp h : Nat} {t0 : PT (h + 1)} {f : Int32 → Option Int64} {wB xB p cp cl c1 c2 B : Nat} {ks : List (Kid h)} {ls : List (Nat × Msg)} {Fz : Nat → Prop}
theorem Tht_at {w : WS} : Tht now h w dp ks ls c1 c2 B = (8 * ks.length - 4 * c1) + (4 * B - 2 * c2) + 104 * (max 4 ks.length - 4) + (39 + 4 * h) * puts ls + xs h ks (ls.map (·.2)) + (ksum (fun c : Kid h => Pg now h c.2.2) ks + ksum (fun c : Kid h => Xr h c.2.2) ks) + (psiK 1 (w.2.2 1 dp) + (psiK 2 (w.2.2 2 dp) + (psiK 3 (w.2.2 3 dp) + Wt w h (dp + 1)))) := rfl
theorem Wt_put {ca c5 : Nat} : Wt (wput wb 3 dp (ca, c5)) (h + 1) dp = psiK 1 (wb.2.2 1 dp) + (psiK 2 (wb.2.2 2 dp) + ((3200 - 4 * c5) + Wt wb h (dp + 1))) := by
  show psiK 1 ((wput wb 3 dp (ca, c5)).2.2 1 dp) + (psiK 2 ((wput wb 3 dp (ca, c5)).2.2 2 dp) + (psiK 3 ((wput wb 3 dp (ca, c5)).2.2 3 dp) + Wt (wput wb 3 dp (ca, c5)) h (dp + 1))) = _
  rw [wput_n (fun e => by cases e.1), wput_n (fun e => by cases e.1), wput_s, psi3, Wt_le (w' := wput wb 3 dp (ca, c5)) (w := wb) (fun kd j _ hj => by rw [wput_n (fun e => by omega)])]
theorem fin_made {k n : Nat} (hF : FS Fz now lo hi dp h p cp cl αb wb ks ls c1 c2) (hn : Tht now h wb dp ks ls c1 c2 B ≤ n) (hkn : n ≤ 4 * k) (hd : 2 ≤ d) :
    aMs g l d k n M6_made [.ref wb.1, .int (nI dp)] αb (fun o α' k' n' => ∃ a c, o = .returned (some (.ref a)) ∧ gotW αb wb dp 3 dp k n a c α' k' n') := by
  rw [Tht_at] at hn
  obtain ⟨hT, hch, hwf, hls, hk1, hinF, hnd, hown, hFz, hW, hdp, -⟩ := hF
  exact sp_made hW (Nat.le_refl _) (by omega) (by clear hk1; omega) hkn hd
theorem fin_parts {kb nb ca cc k4 n4 : Nat} (hF : FS Fz now lo hi dp h p cp cl αb wb ks ls c1 c2) (hS : SB α w now lo hi dp h t0 f wB xB p cp cl αb wb ks ls) (hlh : lo.toInt ≤ hi.toInt) (hL : ls.length ≤ 24) (hg : gotW αb wb dp 3 dp kb nb ca cc α4 k4 n4) (hB : 24 ≤ B) (hn : Tht now h wb dp ks ls c1 c2 B ≤ nb) (hd : 4 ≤ d) :
    aMs g l d k4 n4 M11_parts [.ref p, .int now, .int lo, .int hi, .ref ca] α4 (fun o α' k' n' => ∃ cc', o = .returned (some (.ref ca)) ∧ ∃ ts w', Rst α Fz now lo hi w dp (h + 1) t0 f wB xB α' w' ca cc' ts ∧ nb + (ksum (fun c : Kid (h + 1) => Pg now (h + 1) c.2.2) ts + ksum (fun c : Kid (h + 1) => Xr (h + 1) c.2.2) ts) + 112 * (ts.length - 1) + Wt w' (h + 1) dp ≤ n' + Tht now h wb dp ks ls c1 c2 B ∧ n' ≤ 4 * k') := by
  have hF0 := hF
  obtain ⟨hT, hch, hwf, hls, hk1, hinF, hnd, hown, hFz, hW, hdp, b1, b2, b3, b4, b5, -⟩ := hF
  obtain ⟨q1, q2, q3, q4, q5, q6⟩ := made_keep hW hg
  have hallo : ∀ x ∈ allT (h + 1) (mkN p cp cl now ks ls c1 c2), ¬ wFp wb dp x := fun x hx => by
    have hx' : x ∈ [p, cp, cl] ++ ks.flatMap (fun c => allT h c.2.2) := hx
    rcases List.mem_append.mp hx' with hx' | hx'
    · exact (hown x (List.mem_append_left _ hx')).2
    · obtain ⟨c', hc', hx2⟩ := List.mem_flatMap.mp hx'
      rcases allT_or h c'.2.2 x (hinF c' hc') hx2 with h1 | h1
      · exact (hown x (List.mem_append_right _ (List.mem_flatMap.mpr ⟨c', hc', h1⟩))).2
      · exact (hFz x h1).2
  have hT4 : Th α4 (h + 1) (mkN p cp cl now ks ls c1 c2) := Th.keptT _ _ hT (fun x o hx ho => (q2 x o ho (hallo x hx)).1) (fun x m hx => (q5 x m hx).1)
  have hcan : ∀ x ∈ allT (h + 1) (mkN p cp cl now ks ls c1 c2), x ≠ ca := fun x hx => by
    obtain ⟨o, ho, -⟩ := Th.all_at _ _ hT x hx
    exact (q2 x o ho (hallo x hx)).2
  have g5 : nb + (3200 - 4 * cc) ≤ n4 + psiK 3 (wb.2.2 3 dp) := hg.2.2.2.2.1
  have g6 := hg.2.2.2.2.2.1
  have g7 : 4 ≤ cc := hg.2.2.2.2.2.2.1
  have g8 : cc ≤ 800 := hg.2.2.2.2.2.2.2.1
  rw [Tht_at] at hn
  by_cases h8 : ks.length ≤ 8
  · refine (sp_nparts1 hT4 q1 h8 g7 g8 (fin_pre1 g5 hn) g6 (by omega)).mono (fun o α' k' n' _ _ hQ => ?_)
    obtain ⟨e1, c5, e2, e3, e4, e5, e6⟩ := hQ
    refine ⟨c5, e1, _, _, fin_1 hF0 hS hlh h8 hL hg e2 e3 e4, ?_, e6⟩
    rw [Wt_put, Tht_at, ksum_cons, ksum_nil, ksum_cons, ksum_nil]
    have a1 : Pg now (h + 1) (mkN p cp cl now ks ls c1 c2) = (8 * ks.length - 4 * c1) + (96 - 2 * c2) + 104 * (max 4 ks.length - 4) + (39 + 4 * h) * puts ls + ksum (fun c : Kid h => Pg now h c.2.2) ks := by
      show ((if now = now then _ else _) + _) + _ + _ = _
      rw [if_pos rfl]
    have a2 : Xr (h + 1) (mkN p cp cl now ks ls c1 c2) = xs h ks (ls.map (·.2)) + ksum (fun c : Kid h => Xr h c.2.2) ks := by
      show ksum (xl h ks) ls + _ = _
      rw [xs_ls]
    rw [a1, a2]
    exact fin_num1 g5 e5 hB
  · have h320 := len_320' (ks_len hwf) b5
    have hq2 : 2 ≤ (ks.length + 7) / 8 := by omega
    have hq4 : 4 * ((ks.length + 7) / 8) ≤ ks.length := by omega
    have hq8 : ks.length ≤ 8 * ((ks.length + 7) / 8) := by omega
    have hm4 : 4 ≤ ks.length := by omega
    have hxn := np_xnc hch hwf (show 0 < (ks.length + 7) / 8 by omega) hq4 hls
    refine (sp_nparts2 hT4 q1 hch (by omega) h320 hL rfl g7 g8 hcan (fin_pre2 g5 hn hxn rfl (by omega)) g6 hd).mono (fun o α' k' n' _ _ hQ => ?_)
    obtain ⟨ns, c5, e1, e2, e3, e4, e5, e6, e7, e8, e9, e10, e11, e12⟩ := hQ
    obtain ⟨-, -, -, -, m5, m6, -⟩ := nforest hch hwf hls hL hq2 hq4 hq8 e3 e2
    refine ⟨c5, e1, ns, _, fin_2 hF0 hS (by omega) hL rfl hg e2 e3 e4 e5 e6 e7 e8 e9 e10, ?_, e12⟩
    rw [Wt_put, Tht_at, e2]
    exact fin_num2 g5 e11 m6 m5 hq8 hq2 hm4
end FNP
