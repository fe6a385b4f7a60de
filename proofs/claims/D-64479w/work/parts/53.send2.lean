/-! Inner.send -/
set_option maxRecDepth 100000
section SN2
variable {g : Cx} {l : Launch} {d : Nat} {k n : Nat} {α : AM}
theorem Wt_le {w w' : WS} : ∀ {h d : Nat}, (∀ kd j, kd ≠ 0 → d ≤ j → psiK kd (w'.2.2 kd j) = psiK kd (w.2.2 kd j)) → Wt w' h d = Wt w h d := by
  intro h
  induction h with
  | zero => intro d hj; exact hj 3 d (by omega) (Nat.le_refl _)
  | succ h ih =>
    intro d hj
    show psiK 1 _ + (psiK 2 _ + (psiK 3 _ + _)) = psiK 1 _ + (psiK 2 _ + (psiK 3 _ + _))
    rw [hj 1 d (by omega) (Nat.le_refl _), hj 2 d (by omega) (Nat.le_refl _), hj 3 d (by omega) (Nat.le_refl _), ih (fun kd j h0 h => hj kd j h0 (by omega))]
theorem puts_pM {ls : List (Nat × Msg)} {ms : List Msg} (h : ls.map (·.2) = ms) : puts ls = pM ms := by rw [puts_ls, h]
set_option maxHeartbeats 8000000 in
theorem sp_send {h p cp cl c1 c2 i dp B : Nat} {now lo hi : Int32} {Fz : Nat → Prop} {w : WS} {A Bk : List (Kid h)} {c : Kid h} {ls : List (Nat × Msg)} (ih : TakS g l h) (hF : FS Fz now lo hi dp h p cp cl α w (A ++ c :: Bk) ls c1 c2) (hA : A.length = i) (hB : ls.length ≤ B) (hn : Tht now h w dp (A ++ c :: Bk) ls c1 c2 B ≤ n) (hkn : n ≤ 4 * k) (hd : 2 * h + 7 ≤ d) :
    aMs g l d k n M11_send [.ref p, .int (nI i), .int now, .int hi, .ref w.1, .int (nI dp)] α (fun o α' k' n' => o = .returned none ∧ ∃ ks' ls' c1' c2' w' B', FS Fz now lo hi dp h p cp cl α' w' ks' ls' c1' c2' ∧ Evo now lo hi dp h cp cl α w (A ++ c :: Bk) ls α' w' ks' ls' ∧ ls'.length ≤ B' ∧ B ≤ B' ∧ n + Tht now h w' dp ks' ls' c1' c2' B' ≤ n' + Tht now h w dp (A ++ c :: Bk) ls c1 c2 B ∧ n' ≤ 4 * k' ∧ hits (ls'.map (·.2)) ks' + hc (ls.map (·.2)) c.1 c.2.1 = hits (ls.map (·.2)) (A ++ c :: Bk)) := by
  intro μ hR
  have hF0 := hF
  have hd1 : 1 ≤ d - 1 := by omega
  have hdd : d - 1 + 1 ≤ d := by omega
  obtain ⟨hT, hch, hwf, hls, hkk1, hinF, hnd, hown, hFz, hW, hdp, h4, h4', h8, h8', hwt, hcr, hhr⟩ := hF
  generalize hQ : (fun (o : Outcome) (μ' : Mem) (k' n' : Nat) => ∃ α', Rep α' μ' ∧ (o = .returned none ∧ ∃ ks' ls' c1' c2' w' B', FS Fz now lo hi dp h p cp cl α' w' ks' ls' c1' c2' ∧ Evo now lo hi dp h cp cl α w (A ++ c :: Bk) ls α' w' ks' ls' ∧ ls'.length ≤ B' ∧ B ≤ B' ∧ n + Tht now h w' dp ks' ls' c1' c2' B' ≤ n' + Tht now h w dp (A ++ c :: Bk) ls c1 c2 B ∧ n' ≤ 4 * k' ∧ hits (ls'.map (·.2)) ks' + hc (ls.map (·.2)) c.1 c.2.1 = hits (ls.map (·.2)) (A ++ c :: Bk))) = Q
  have hQ0 := hQ
  show Ms g l d k n M11_send _ μ Q
  have hci : (A ++ c :: Bk)[i]? = some c := by rw [← hA, List.getElem?_append_right (Nat.le_refl _), Nat.sub_self]; rfl
  have hcm : c ∈ A ++ c :: Bk := List.mem_of_getElem? hci
  have hcw := hwf c hcm
  have hwA : wfK A := fun c' hc' => hwf c' (List.mem_append_left _ hc')
  have hwB : wfK Bk := fun c' hc' => hwf c' (List.mem_append_right _ (List.mem_cons_of_mem _ hc'))
  obtain ⟨m0, kA1, kc1, kc2, kB1⟩ := chn.app.mp hch
  have hoks : ∀ m ∈ ls.map (·.2), okM m ∧ lo ≤ m.2.1 ∧ m.2.2.1 ≤ hi := fun m hm => by
    obtain ⟨q, hq, rfl⟩ := List.mem_map.mp hm
    exact hls q hq
  have hoks1 : ∀ m ∈ ls.map (·.2), okM m := fun m hm => (hoks m hm).1
  have hoks2 : ∀ m ∈ ls.map (·.2), okM m ∧ lo.toInt ≤ m.2.1.toInt ∧ m.2.2.1.toInt ≤ hi.toInt := fun m hm => by
    have := hoks m hm
    rw [i_le, i_le] at this
    exact this
  -- lengths
  have hself := hits_send (ts := [c]) hch ⟨rfl, kc2, rfl⟩ hoks1
  have hself2 : hitsR (stL c.1 c.2.1 (ls.map (·.2))) (A ++ c :: Bk) ≤ 1800 := by
    have := hself.2
    rw [show A ++ ([c] ++ Bk) = A ++ c :: Bk from rfl] at this
    omega
  have hstoks : ∀ m ∈ stL c.1 c.2.1 (ls.map (·.2)), okM m ∧ lo ≤ m.2.1 ∧ m.2.2.1 ≤ hi := by
    intro m hm
    unfold stL at hm
    obtain ⟨m', hm', hm⟩ := List.mem_flatMap.mp hm
    obtain ⟨-, -, q3, q4, q5, -⟩ := stP_mem (hoks1 m' hm') kc2 hm
    have := hoks m' hm'
    rw [i_le, i_le] at this
    refine ⟨q3, ?_, ?_⟩
    · rw [i_le]; omega
    · rw [i_le]; omega
  have hsp := send_puts (lo := c.1) (hi := c.2.1) kc2 hoks1
  have hpls : puts ls = pM (ls.map (·.2)) := puts_ls
  have hl1 : ls.length ≤ 4400 := by
    have h1 := len_pR (ms := ls.map (·.2))
    have h2 := nR_hits hch hoks
    rw [List.length_map] at h1
    omega
  have hl2 : (stL c.1 c.2.1 (ls.map (·.2))).length ≤ 4400 := by
    have h1 := len_pR (ms := stL c.1 c.2.1 (ls.map (·.2)))
    have h2 := nR_hits hch hstoks
    omega
  have hklen := ks_len hwf
  -- what isn't Work's
  have hnode : ∀ x ∈ allT (h + 1) (mkN p cp cl now (A ++ c :: Bk) ls c1 c2), ¬ wFp w dp x := by
    intro x hx
    have hx' : x ∈ [p, cp, cl] ++ (A ++ c :: Bk).flatMap (fun c => allT h c.2.2) := hx
    rcases List.mem_append.mp hx' with hx' | hx'
    · exact (hown x (List.mem_append_left _ hx')).2
    · obtain ⟨c', hc', hx2⟩ := List.mem_flatMap.mp hx'
      rcases allT_or h c'.2.2 x (hinF c' hc') hx2 with h1 | h1
      · exact (hown x (List.mem_append_right _ (List.mem_flatMap.mpr ⟨c', hc', h1⟩))).2
      · exact (hFz x h1).2
  have hmsgw : ∀ x m, α x = some (oW (mC m)) → ¬ wFp w dp x := fun x m hx hf => by
    obtain ⟨o, ho, hne⟩ := hW.dom hf
    rw [hx] at ho
    exact hne m (Option.some.inj ho).symm
  obtain ⟨m1, ⟨x, y, xs', zs, hpg⟩, -, -, -⟩ := hT.nodeC hR
  have hpg0 := hpg
  obtain ⟨m2, m3, m4, e1, e2, hle, hcap, ht, hu⟩ := hpg
  rw [kA_len] at m2 hle ht hu
  have hcap' : c1 ≤ 1000000 := hcap
  have hilen : i < (A ++ c :: Bk).length := (List.getElem?_eq_some_iff.mp hci).1
  have hzj : zs[i]? = some c.1 := by
    have : (zs.take (A ++ c :: Bk).length)[i]? = some c.1 := by rw [hu, List.getElem?_map, kA_at hci]; rfl
    rwa [List.getElem?_take, if_pos hilen] at this
  have hiz : ix zs (nI i) = some c.1 := by rw [ix_n (by omega)]; exact hzj
  have hWtd : Wt w (h + 1) dp = psiK 1 (w.2.2 1 dp) + (psiK 2 (w.2.2 2 dp) + (psiK 3 (w.2.2 3 dp) + Wt w h (dp + 1))) := rfl
  unfold Tht at hn
  rw [hWtd] at hn
  refine Ms.of (M := M11_send) rfl rfl (Nat.le_of_ble_eq_true rfl) ?_
  first | refine b_aload_n dX11_send_0 rfl ?_ | refine b_aload_nN dX11_send_0 rfl ?_
  refine b_getf dX11_send_1 f11_9 (by first | assumption | exact mset_s | exact Rep.raw (by assumption) (by assumption) | (refine (mset_n (by first | assumption | exact Ne.symm (by assumption) | exact ne_fr (by assumption) (by assumption) | exact Ne.symm (ne_fr (by assumption) (by assumption)))).trans ?_; first | assumption | exact mset_s | exact Rep.raw (by assumption) (by assumption) | (refine (mset_n (by first | assumption | exact Ne.symm (by assumption) | exact ne_fr (by assumption) (by assumption) | exact Ne.symm (ne_fr (by assumption) (by assumption)))).trans ?_; first | assumption | exact mset_s | exact Rep.raw (by assumption) (by assumption) | (refine (mset_n (by first | assumption | exact Ne.symm (by assumption) | exact ne_fr (by assumption) (by assumption) | exact Ne.symm (ne_fr (by assumption) (by assumption)))).trans ?_; first | assumption | exact mset_s | exact Rep.raw (by assumption) (by assumption) | (refine (mset_n (by first | assumption | exact Ne.symm (by assumption) | exact ne_fr (by assumption) (by assumption) | exact Ne.symm (ne_fr (by assumption) (by assumption)))).trans ?_; first | assumption | exact mset_s | exact Rep.raw (by assumption) (by assumption) | (refine (mset_n (by first | assumption | exact Ne.symm (by assumption) | exact ne_fr (by assumption) (by assumption) | exact Ne.symm (ne_fr (by assumption) (by assumption)))).trans ?_; first | assumption | exact mset_s | exact Rep.raw (by assumption) (by assumption) | (refine (mset_n (by first | assumption | exact Ne.symm (by assumption) | exact ne_fr (by assumption) (by assumption) | exact Ne.symm (ne_fr (by assumption) (by assumption)))).trans ?_; first | assumption | exact mset_s | exact Rep.raw (by assumption) (by assumption) | (refine (mset_n (by first | assumption | exact Ne.symm (by assumption) | exact ne_fr (by assumption) (by assumption) | exact Ne.symm (ne_fr (by assumption) (by assumption)))).trans ?_; assumption)))))))) rfl ?_
  refine b_getf dX11_send_4 f11_31 (by first | assumption | exact mset_s | exact Rep.raw (by assumption) (by assumption) | (refine (mset_n (by first | assumption | exact Ne.symm (by assumption) | exact ne_fr (by assumption) (by assumption) | exact Ne.symm (ne_fr (by assumption) (by assumption)))).trans ?_; first | assumption | exact mset_s | exact Rep.raw (by assumption) (by assumption) | (refine (mset_n (by first | assumption | exact Ne.symm (by assumption) | exact ne_fr (by assumption) (by assumption) | exact Ne.symm (ne_fr (by assumption) (by assumption)))).trans ?_; first | assumption | exact mset_s | exact Rep.raw (by assumption) (by assumption) | (refine (mset_n (by first | assumption | exact Ne.symm (by assumption) | exact ne_fr (by assumption) (by assumption) | exact Ne.symm (ne_fr (by assumption) (by assumption)))).trans ?_; first | assumption | exact mset_s | exact Rep.raw (by assumption) (by assumption) | (refine (mset_n (by first | assumption | exact Ne.symm (by assumption) | exact ne_fr (by assumption) (by assumption) | exact Ne.symm (ne_fr (by assumption) (by assumption)))).trans ?_; first | assumption | exact mset_s | exact Rep.raw (by assumption) (by assumption) | (refine (mset_n (by first | assumption | exact Ne.symm (by assumption) | exact ne_fr (by assumption) (by assumption) | exact Ne.symm (ne_fr (by assumption) (by assumption)))).trans ?_; first | assumption | exact mset_s | exact Rep.raw (by assumption) (by assumption) | (refine (mset_n (by first | assumption | exact Ne.symm (by assumption) | exact ne_fr (by assumption) (by assumption) | exact Ne.symm (ne_fr (by assumption) (by assumption)))).trans ?_; first | assumption | exact mset_s | exact Rep.raw (by assumption) (by assumption) | (refine (mset_n (by first | assumption | exact Ne.symm (by assumption) | exact ne_fr (by assumption) (by assumption) | exact Ne.symm (ne_fr (by assumption) (by assumption)))).trans ?_; assumption)))))))) rfl ?_
  refine b_iload_n dX11_send_7 rfl ?_
  refine b_iald dX11_send_8 (by first | assumption | exact mset_s | exact Rep.raw (by assumption) (by assumption) | (refine (mset_n (by first | assumption | exact Ne.symm (by assumption) | exact ne_fr (by assumption) (by assumption) | exact Ne.symm (ne_fr (by assumption) (by assumption)))).trans ?_; first | assumption | exact mset_s | exact Rep.raw (by assumption) (by assumption) | (refine (mset_n (by first | assumption | exact Ne.symm (by assumption) | exact ne_fr (by assumption) (by assumption) | exact Ne.symm (ne_fr (by assumption) (by assumption)))).trans ?_; first | assumption | exact mset_s | exact Rep.raw (by assumption) (by assumption) | (refine (mset_n (by first | assumption | exact Ne.symm (by assumption) | exact ne_fr (by assumption) (by assumption) | exact Ne.symm (ne_fr (by assumption) (by assumption)))).trans ?_; first | assumption | exact mset_s | exact Rep.raw (by assumption) (by assumption) | (refine (mset_n (by first | assumption | exact Ne.symm (by assumption) | exact ne_fr (by assumption) (by assumption) | exact Ne.symm (ne_fr (by assumption) (by assumption)))).trans ?_; first | assumption | exact mset_s | exact Rep.raw (by assumption) (by assumption) | (refine (mset_n (by first | assumption | exact Ne.symm (by assumption) | exact ne_fr (by assumption) (by assumption) | exact Ne.symm (ne_fr (by assumption) (by assumption)))).trans ?_; first | assumption | exact mset_s | exact Rep.raw (by assumption) (by assumption) | (refine (mset_n (by first | assumption | exact Ne.symm (by assumption) | exact ne_fr (by assumption) (by assumption) | exact Ne.symm (ne_fr (by assumption) (by assumption)))).trans ?_; first | assumption | exact mset_s | exact Rep.raw (by assumption) (by assumption) | (refine (mset_n (by first | assumption | exact Ne.symm (by assumption) | exact ne_fr (by assumption) (by assumption) | exact Ne.symm (ne_fr (by assumption) (by assumption)))).trans ?_; assumption)))))))) (by first | assumption | exact ix_D (by first | assumption | omega) (by first | assumption | omega)) ?_
  refine b_istore dX11_send_9 (by decide) ?_
  first | refine b_aload_n dX11_send_11 rfl ?_ | refine b_aload_nN dX11_send_11 rfl ?_
  refine b_getf dX11_send_12 f11_9 (by first | assumption | exact mset_s | exact Rep.raw (by assumption) (by assumption) | (refine (mset_n (by first | assumption | exact Ne.symm (by assumption) | exact ne_fr (by assumption) (by assumption) | exact Ne.symm (ne_fr (by assumption) (by assumption)))).trans ?_; first | assumption | exact mset_s | exact Rep.raw (by assumption) (by assumption) | (refine (mset_n (by first | assumption | exact Ne.symm (by assumption) | exact ne_fr (by assumption) (by assumption) | exact Ne.symm (ne_fr (by assumption) (by assumption)))).trans ?_; first | assumption | exact mset_s | exact Rep.raw (by assumption) (by assumption) | (refine (mset_n (by first | assumption | exact Ne.symm (by assumption) | exact ne_fr (by assumption) (by assumption) | exact Ne.symm (ne_fr (by assumption) (by assumption)))).trans ?_; first | assumption | exact mset_s | exact Rep.raw (by assumption) (by assumption) | (refine (mset_n (by first | assumption | exact Ne.symm (by assumption) | exact ne_fr (by assumption) (by assumption) | exact Ne.symm (ne_fr (by assumption) (by assumption)))).trans ?_; first | assumption | exact mset_s | exact Rep.raw (by assumption) (by assumption) | (refine (mset_n (by first | assumption | exact Ne.symm (by assumption) | exact ne_fr (by assumption) (by assumption) | exact Ne.symm (ne_fr (by assumption) (by assumption)))).trans ?_; first | assumption | exact mset_s | exact Rep.raw (by assumption) (by assumption) | (refine (mset_n (by first | assumption | exact Ne.symm (by assumption) | exact ne_fr (by assumption) (by assumption) | exact Ne.symm (ne_fr (by assumption) (by assumption)))).trans ?_; first | assumption | exact mset_s | exact Rep.raw (by assumption) (by assumption) | (refine (mset_n (by first | assumption | exact Ne.symm (by assumption) | exact ne_fr (by assumption) (by assumption) | exact Ne.symm (ne_fr (by assumption) (by assumption)))).trans ?_; assumption)))))))) rfl ?_
  refine b_iload_n dX11_send_15 rfl ?_
  refine b_iload_n dX11_send_16 rfl ?_
  refine b_callA (As := [.ref cp, .int (nI i), .int hi]) (rest := []) s11_36 dX11_send_17 rfl rfl (fun ci hci => by cases hci; exact ⟨_, _, _, rfl, by first | assumption | exact mset_s | exact Rep.raw (by assumption) (by assumption) | (refine (mset_n (by first | assumption | exact Ne.symm (by assumption) | exact ne_fr (by assumption) (by assumption) | exact Ne.symm (ne_fr (by assumption) (by assumption)))).trans ?_; first | assumption | exact mset_s | exact Rep.raw (by assumption) (by assumption) | (refine (mset_n (by first | assumption | exact Ne.symm (by assumption) | exact ne_fr (by assumption) (by assumption) | exact Ne.symm (ne_fr (by assumption) (by assumption)))).trans ?_; first | assumption | exact mset_s | exact Rep.raw (by assumption) (by assumption) | (refine (mset_n (by first | assumption | exact Ne.symm (by assumption) | exact ne_fr (by assumption) (by assumption) | exact Ne.symm (ne_fr (by assumption) (by assumption)))).trans ?_; first | assumption | exact mset_s | exact Rep.raw (by assumption) (by assumption) | (refine (mset_n (by first | assumption | exact Ne.symm (by assumption) | exact ne_fr (by assumption) (by assumption) | exact Ne.symm (ne_fr (by assumption) (by assumption)))).trans ?_; first | assumption | exact mset_s | exact Rep.raw (by assumption) (by assumption) | (refine (mset_n (by first | assumption | exact Ne.symm (by assumption) | exact ne_fr (by assumption) (by assumption) | exact Ne.symm (ne_fr (by assumption) (by assumption)))).trans ?_; first | assumption | exact mset_s | exact Rep.raw (by assumption) (by assumption) | (refine (mset_n (by first | assumption | exact Ne.symm (by assumption) | exact ne_fr (by assumption) (by assumption) | exact Ne.symm (ne_fr (by assumption) (by assumption)))).trans ?_; first | assumption | exact mset_s | exact Rep.raw (by assumption) (by assumption) | (refine (mset_n (by first | assumption | exact Ne.symm (by assumption) | exact ne_fr (by assumption) (by assumption) | exact Ne.symm (ne_fr (by assumption) (by assumption)))).trans ?_; assumption)))))))⟩) (sp_high (d := d - 1) hpg0 (by rw [kA_len]; exact hilen)) (by first | assumption | omega) (Nat.le_of_ble_eq_true rfl) ?_
  rw [hiP_kid hch hci]
  have mW := hW.flds hR
  refine b_istore dX11_send_20 (by decide) ?_
  first | refine b_aload dX11_send_22 rfl ?_ | refine b_aloadN dX11_send_22 rfl ?_
  refine b_iload dX11_send_24 rfl ?_
  refine b_call (As := [.ref w.1, .int (nI dp)]) (rest := []) s11_143 dX11_send_26 rfl rfl (fun ci hci => by cases hci; exact ⟨_, _, _, rfl, by first | assumption | exact mset_s | exact Rep.raw (by assumption) (by assumption) | (refine (mset_n (by first | assumption | exact Ne.symm (by assumption) | exact ne_fr (by assumption) (by assumption) | exact Ne.symm (ne_fr (by assumption) (by assumption)))).trans ?_; first | assumption | exact mset_s | exact Rep.raw (by assumption) (by assumption) | (refine (mset_n (by first | assumption | exact Ne.symm (by assumption) | exact ne_fr (by assumption) (by assumption) | exact Ne.symm (ne_fr (by assumption) (by assumption)))).trans ?_; first | assumption | exact mset_s | exact Rep.raw (by assumption) (by assumption) | (refine (mset_n (by first | assumption | exact Ne.symm (by assumption) | exact ne_fr (by assumption) (by assumption) | exact Ne.symm (ne_fr (by assumption) (by assumption)))).trans ?_; first | assumption | exact mset_s | exact Rep.raw (by assumption) (by assumption) | (refine (mset_n (by first | assumption | exact Ne.symm (by assumption) | exact ne_fr (by assumption) (by assumption) | exact Ne.symm (ne_fr (by assumption) (by assumption)))).trans ?_; first | assumption | exact mset_s | exact Rep.raw (by assumption) (by assumption) | (refine (mset_n (by first | assumption | exact Ne.symm (by assumption) | exact ne_fr (by assumption) (by assumption) | exact Ne.symm (ne_fr (by assumption) (by assumption)))).trans ?_; first | assumption | exact mset_s | exact Rep.raw (by assumption) (by assumption) | (refine (mset_n (by first | assumption | exact Ne.symm (by assumption) | exact ne_fr (by assumption) (by assumption) | exact Ne.symm (ne_fr (by assumption) (by assumption)))).trans ?_; first | assumption | exact mset_s | exact Rep.raw (by assumption) (by assumption) | (refine (mset_n (by first | assumption | exact Ne.symm (by assumption) | exact ne_fr (by assumption) (by assumption) | exact Ne.symm (ne_fr (by assumption) (by assumption)))).trans ?_; assumption)))))))⟩) (sp_go (d := d - 1) hW (Nat.le_refl _) (by omega) (by omega) hkn (by omega) _ hR) (by first | (rintro _ _ _ _ ⟨h, -⟩; exact ⟨_, h⟩) | (rintro _ _ _ _ ⟨_, h, -⟩; exact ⟨_, h⟩) | (rintro _ _ _ _ ⟨_, _, h, -⟩; exact ⟨_, h⟩) | (rintro _ _ _ _ ⟨_, _, _, h, -⟩; exact ⟨_, h⟩) | (rintro _ _ _ _ ⟨_, _, _, _, h, -⟩; exact ⟨_, h⟩)) (by first | assumption | omega) (Nat.le_of_ble_eq_true rfl) (fun v1 μ1 k1 n1 hk1 hn1 hQ1 => ?_)
  obtain ⟨α1, hR1, ga, cg, z1, hg1⟩ := hQ1
  cases z1
  have hW1 := hg1.2.1
  have mW1 := hW1.flds hR1
  have hpsi1 : n + (17600 - 2 * cg) ≤ n1 + psiK 1 (w.2.2 1 dp) := hg1.2.2.2.2.1
  have hkn1 := hg1.2.2.2.2.2.1
  have hw12 : (wput w 1 dp (ga, cg)).2.2 2 dp = w.2.2 2 dp := wput_n (fun e => by omega)
  first | refine b_astore dX11_send_29 (by decide) ?_ | refine b_astoreN dX11_send_29 (by decide) ?_
  first | refine b_aload dX11_send_31 rfl ?_ | refine b_aloadN dX11_send_31 rfl ?_
  refine b_iload dX11_send_33 rfl ?_
  refine b_call (As := [.ref w.1, .int (nI dp)]) (rest := []) s11_147 dX11_send_35 rfl rfl (fun ci hci => by cases hci; exact ⟨_, _, _, rfl, by first | assumption | exact mset_s | exact Rep.raw (by assumption) (by assumption) | (refine (mset_n (by first | assumption | exact Ne.symm (by assumption) | exact ne_fr (by assumption) (by assumption) | exact Ne.symm (ne_fr (by assumption) (by assumption)))).trans ?_; first | assumption | exact mset_s | exact Rep.raw (by assumption) (by assumption) | (refine (mset_n (by first | assumption | exact Ne.symm (by assumption) | exact ne_fr (by assumption) (by assumption) | exact Ne.symm (ne_fr (by assumption) (by assumption)))).trans ?_; first | assumption | exact mset_s | exact Rep.raw (by assumption) (by assumption) | (refine (mset_n (by first | assumption | exact Ne.symm (by assumption) | exact ne_fr (by assumption) (by assumption) | exact Ne.symm (ne_fr (by assumption) (by assumption)))).trans ?_; first | assumption | exact mset_s | exact Rep.raw (by assumption) (by assumption) | (refine (mset_n (by first | assumption | exact Ne.symm (by assumption) | exact ne_fr (by assumption) (by assumption) | exact Ne.symm (ne_fr (by assumption) (by assumption)))).trans ?_; first | assumption | exact mset_s | exact Rep.raw (by assumption) (by assumption) | (refine (mset_n (by first | assumption | exact Ne.symm (by assumption) | exact ne_fr (by assumption) (by assumption) | exact Ne.symm (ne_fr (by assumption) (by assumption)))).trans ?_; first | assumption | exact mset_s | exact Rep.raw (by assumption) (by assumption) | (refine (mset_n (by first | assumption | exact Ne.symm (by assumption) | exact ne_fr (by assumption) (by assumption) | exact Ne.symm (ne_fr (by assumption) (by assumption)))).trans ?_; first | assumption | exact mset_s | exact Rep.raw (by assumption) (by assumption) | (refine (mset_n (by first | assumption | exact Ne.symm (by assumption) | exact ne_fr (by assumption) (by assumption) | exact Ne.symm (ne_fr (by assumption) (by assumption)))).trans ?_; assumption)))))))⟩) (sp_stay (w := wput w 1 dp (ga, cg)) (d := d - 1) hW1 (Nat.le_refl _) (by omega) (by rw [hw12]; omega) hkn1 (by omega) _ hR1) (by first | (rintro _ _ _ _ ⟨h, -⟩; exact ⟨_, h⟩) | (rintro _ _ _ _ ⟨_, h, -⟩; exact ⟨_, h⟩) | (rintro _ _ _ _ ⟨_, _, h, -⟩; exact ⟨_, h⟩) | (rintro _ _ _ _ ⟨_, _, _, h, -⟩; exact ⟨_, h⟩) | (rintro _ _ _ _ ⟨_, _, _, _, h, -⟩; exact ⟨_, h⟩)) (by first | assumption | omega) (Nat.le_of_ble_eq_true rfl) (fun v2 μ2 k2 n2 hk2 hn2 hQ2 => ?_)
  obtain ⟨α2, hR2, sa, cs, z2, hg2⟩ := hQ2
  cases z2
  have hW2 := hg2.2.1
  have hpsi2 : n1 + (17600 - 2 * cs) ≤ n2 + psiK 2 (w.2.2 2 dp) := by
    have := hg2.2.2.2.2.1
    rw [hw12] at this
    exact this
  have hkn2 := hg2.2.2.2.2.2.1
  have hsa2 : α2 sa = some (oL [] cs) := hg2.1
  have hcg : 8 ≤ cg ∧ cg ≤ 8800 := ⟨hg1.2.2.2.2.2.2.1, hg1.2.2.2.2.2.2.2.1⟩
  have hcs : 8 ≤ cs ∧ cs ≤ 8800 := ⟨hg2.2.2.2.2.2.2.1, hg2.2.2.2.2.2.2.2.1⟩
  generalize hw2 : wput (wput w 1 dp (ga, cg)) 2 dp (sa, cs) = w2 at *
  have hent1 : w2.2.2 1 dp = some (ga, cg) := by rw [← hw2, wput_n (fun e => by omega)]; exact wput_s
  have hent2 : w2.2.2 2 dp = some (sa, cs) := by rw [← hw2]; exact wput_s
  have hgs : ga ≠ sa := fun e => by
    have := hW2.2.2.2.1 1 dp 2 dp ga cg cs (by omega) (by omega) hent1 (by rw [e]; exact hent2)
    omega
  have hga2 : α2 ga = some (oL [] cg) := hg2.2.2.1 ga _ hg1.1 hgs (hW1.arr_ne (show 1 < 4 by omega) (show 2 < 4 by omega) (show (wput w 1 dp (ga, cg)).2.2 1 dp = some (ga, cg) from wput_s)).1
  have hsm1 := hg1.sm (ks := not0) (show (1 : Nat) ≠ 0 by omega) (Nat.le_refl _)
  have hsm2 := hg2.sm (ks := not0) (show (2 : Nat) ≠ 0 by omega) (Nat.le_refl _)
  rw [hw2] at hsm2
  have hdom1 := hg1.dom (by omega)
  have hdom2 := hg2.dom (by omega)
  have hsm12 : wSm α w w2 not0 dp := hsm1.tr hsm2 hdom1
  have hdom12 : ∀ x o, α x = some o → ∃ o', α2 x = some o' := fun x o hx => by
    obtain ⟨o', h'⟩ := hdom1 x o hx
    exact hdom2 x o' h'
  have hkeep2 : ∀ x o, α x = some o → ¬ wFp w dp x → α2 x = some o ∧ x ≠ ga ∧ x ≠ sa := by
    intro x o hx hf
    obtain ⟨q1, q2⟩ := hg1.keep (by omega) (Nat.le_refl _) hx hf
    have hf1 : ¬ wFp (wput w 1 dp (ga, cg)) dp x := fun hf1 => by
      rcases hsm1.fp hf1 with h' | h'
      · exact hf h'
      · rw [hx] at h'; cases h'
    obtain ⟨q3, q4⟩ := hg2.keep (by omega) (Nat.le_refl _) q1 hf1
    exact ⟨q3, q2, q4⟩
  have hT2 : Th α2 (h + 1) (mkN p cp cl now (A ++ c :: Bk) ls c1 c2) := Th.keptT _ _ hT (fun x o hx ho => (hkeep2 x o ho (hnode x hx)).1) (fun x m hx => (hkeep2 x _ hx (hmsgw x m hx)).1)
  have hpne : ∀ x ∈ allT (h + 1) (mkN p cp cl now (A ++ c :: Bk) ls c1 c2), x ≠ ga ∧ x ≠ sa := fun x hx => by
    obtain ⟨o, ho, -⟩ := Th.all_at _ _ hT x hx
    exact (hkeep2 x o ho (hnode x hx)).2
  have hcpin : cp ∈ allT (h + 1) (mkN p cp cl now (A ++ c :: Bk) ls c1 c2) := List.mem_append_left _ (by simp)
  have hclin : cl ∈ allT (h + 1) (mkN p cp cl now (A ++ c :: Bk) ls c1 c2) := List.mem_append_left _ (by simp)
  have hpin : p ∈ allT (h + 1) (mkN p cp cl now (A ++ c :: Bk) ls c1 c2) := List.mem_append_left _ (by simp)
  have hkin : ∀ c' ∈ A ++ c :: Bk, ∀ x ∈ allT h c'.2.2, x ∈ allT (h + 1) (mkN p cp cl now (A ++ c :: Bk) ls c1 c2) := fun c' hc' x hx => List.mem_append_right _ (List.mem_flatMap.mpr ⟨c', hc', hx⟩)
  -- credits
  have hself3 := send_credit (ts := [c]) hch ⟨rfl, kc2, rfl⟩ hwA hcw hwB (fun c' hc' => by rw [List.mem_singleton.mp hc']; exact hcw) hoks2
  rw [show A ++ ([c] ++ Bk) = A ++ c :: Bk from rfl] at hself3
  have hm39 : (39 + 4 * h) * pM (stL c.1 c.2.1 (ls.map (·.2))) + (39 + 4 * h) * pM (goL c.1 c.2.1 (ls.map (·.2))) = (39 + 4 * h) * puts ls := by
    rw [← Nat.mul_add, hsp, hpls]
  generalize hN : newCs c.1 c.2.1 (ls.map (·.2)) = N at *
  generalize hE : exs c.1 c.2.1 (ls.map (·.2)) = E at *
  generalize hX0 : xs h (A ++ c :: Bk) (ls.map (·.2)) = X0 at *
  generalize hI0 : ic h c (goL c.1 c.2.1 (ls.map (·.2))) = I0 at *
  first | refine b_astore dX11_send_38 (by decide) ?_ | refine b_astoreN dX11_send_38 (by decide) ?_
  refine b_iconst (v := 0) dX11_send_40 (by decide) ?_
  refine b_istore dX11_send_41 (by decide) ?_
  refine bB.locs rfl (lp_send (c1 := c1) (c2 := c2) (cg := cg) (cs := cs) (k2 := k2) (n2 := n2) hT2 hga2 hsa2 hgs (hpne cl hclin).1 (hpne cl hclin).2 (hpne cp hcpin).1 (hpne cp hcpin).2 (fun q hq => (hls q hq).1) kc2 (fun c' hc' x hx => hpne x (hkin c' hc' x hx)) hl1 hl2 hcg hcs (by rw [hN]; omega) hkn2 (by omega) ?_ (ls.length + 1) 0 α2 μ2 [] [] cg cs k2 n2 (by omega) (by omega) hR2 rfl rfl ⟨hga2, hsa2, fun q hq => (by cases hq), fun q hq => (by cases hq), fun x o hx _ _ => hx, hcg.1, hcg.2, hcs.1, hcs.2, by omega, hkn2⟩)
  intro αF μF gq sq cgF csF kF nF hRF hgq hsq hSF
  rw [hN] at hSF
  obtain ⟨f1, f2, f3, f4, f5, f6, f7, f8, f9, f10, f11⟩ := hSF
  have hmsgF : ∀ x m, α2 x = some (oW (mC m)) → αF x = some (oW (mC m)) := fun x m hx => f5 x _ hx (fun e => by rw [e, hga2] at hx; cases hx) (fun e => by rw [e, hsa2] at hx; cases hx)
  have hTF : Th αF (h + 1) (mkN p cp cl now (A ++ c :: Bk) ls c1 c2) := Th.keptT _ _ hT2 (fun x o hx ho => f5 x o ho (hpne x hx).1 (hpne x hx).2) hmsgF
  have hclF : αF cl = some (oL (ls.map (·.1)) c2) := hTF.2.2.1
  have nclsa : cl ≠ sa := (hpne cl hclin).2
  have nclga : cl ≠ ga := (hpne cl hclin).1
  have hallF : allM αF (sq.map (·.1)) := fun x hx => by
    obtain ⟨q, hq, rfl⟩ := List.mem_map.mp hx
    exact ⟨_, f4 q hq⟩
  have hsql : (sq.map (·.1)).length = (stL c.1 c.2.1 (ls.map (·.2))).length := by rw [List.length_map, ← hsq, List.length_map]
  have hsqn : sq.length = (stL c.1 c.2.1 (ls.map (·.2))).length := by rw [← hsq, List.length_map]
  have hstE := st_len (lo := c.1) (hi := c.2.1) (ms := ls.map (·.2))
  rw [hE, List.length_map] at hstE
  obtain ⟨mF1, -, ⟨rF, rsF, mF2, -⟩, -, -⟩ := hTF.nodeC hRF
  obtain ⟨srF, srsF, msaF, -⟩ := hRF.let f2
  first | refine b_aload_n dX11_send_167 rfl ?_ | refine b_aload_nN dX11_send_167 rfl ?_
  refine b_getf dX11_send_168 f11_15 (by first | assumption | exact mset_s | exact Rep.raw (by assumption) (by assumption) | (refine (mset_n (by first | assumption | exact Ne.symm (by assumption) | exact ne_fr (by assumption) (by assumption) | exact Ne.symm (ne_fr (by assumption) (by assumption)))).trans ?_; first | assumption | exact mset_s | exact Rep.raw (by assumption) (by assumption) | (refine (mset_n (by first | assumption | exact Ne.symm (by assumption) | exact ne_fr (by assumption) (by assumption) | exact Ne.symm (ne_fr (by assumption) (by assumption)))).trans ?_; first | assumption | exact mset_s | exact Rep.raw (by assumption) (by assumption) | (refine (mset_n (by first | assumption | exact Ne.symm (by assumption) | exact ne_fr (by assumption) (by assumption) | exact Ne.symm (ne_fr (by assumption) (by assumption)))).trans ?_; first | assumption | exact mset_s | exact Rep.raw (by assumption) (by assumption) | (refine (mset_n (by first | assumption | exact Ne.symm (by assumption) | exact ne_fr (by assumption) (by assumption) | exact Ne.symm (ne_fr (by assumption) (by assumption)))).trans ?_; first | assumption | exact mset_s | exact Rep.raw (by assumption) (by assumption) | (refine (mset_n (by first | assumption | exact Ne.symm (by assumption) | exact ne_fr (by assumption) (by assumption) | exact Ne.symm (ne_fr (by assumption) (by assumption)))).trans ?_; first | assumption | exact mset_s | exact Rep.raw (by assumption) (by assumption) | (refine (mset_n (by first | assumption | exact Ne.symm (by assumption) | exact ne_fr (by assumption) (by assumption) | exact Ne.symm (ne_fr (by assumption) (by assumption)))).trans ?_; first | assumption | exact mset_s | exact Rep.raw (by assumption) (by assumption) | (refine (mset_n (by first | assumption | exact Ne.symm (by assumption) | exact ne_fr (by assumption) (by assumption) | exact Ne.symm (ne_fr (by assumption) (by assumption)))).trans ?_; assumption)))))))) rfl ?_
  first | refine b_aload dX11_send_171 rfl ?_ | refine b_aloadN dX11_send_171 rfl ?_
  refine b_call (As := [.ref cl, .ref sa]) (rest := []) s11_156 dX11_send_173 rfl rfl (fun ci hci => by cases hci; exact ⟨_, _, _, rfl, by first | assumption | exact mset_s | exact Rep.raw (by assumption) (by assumption) | (refine (mset_n (by first | assumption | exact Ne.symm (by assumption) | exact ne_fr (by assumption) (by assumption) | exact Ne.symm (ne_fr (by assumption) (by assumption)))).trans ?_; first | assumption | exact mset_s | exact Rep.raw (by assumption) (by assumption) | (refine (mset_n (by first | assumption | exact Ne.symm (by assumption) | exact ne_fr (by assumption) (by assumption) | exact Ne.symm (ne_fr (by assumption) (by assumption)))).trans ?_; first | assumption | exact mset_s | exact Rep.raw (by assumption) (by assumption) | (refine (mset_n (by first | assumption | exact Ne.symm (by assumption) | exact ne_fr (by assumption) (by assumption) | exact Ne.symm (ne_fr (by assumption) (by assumption)))).trans ?_; first | assumption | exact mset_s | exact Rep.raw (by assumption) (by assumption) | (refine (mset_n (by first | assumption | exact Ne.symm (by assumption) | exact ne_fr (by assumption) (by assumption) | exact Ne.symm (ne_fr (by assumption) (by assumption)))).trans ?_; first | assumption | exact mset_s | exact Rep.raw (by assumption) (by assumption) | (refine (mset_n (by first | assumption | exact Ne.symm (by assumption) | exact ne_fr (by assumption) (by assumption) | exact Ne.symm (ne_fr (by assumption) (by assumption)))).trans ?_; first | assumption | exact mset_s | exact Rep.raw (by assumption) (by assumption) | (refine (mset_n (by first | assumption | exact Ne.symm (by assumption) | exact ne_fr (by assumption) (by assumption) | exact Ne.symm (ne_fr (by assumption) (by assumption)))).trans ?_; first | assumption | exact mset_s | exact Rep.raw (by assumption) (by assumption) | (refine (mset_n (by first | assumption | exact Ne.symm (by assumption) | exact ne_fr (by assumption) (by assumption) | exact Ne.symm (ne_fr (by assumption) (by assumption)))).trans ?_; assumption)))))))⟩) (sp_become (d := d - 1) hclF nclsa f2 hallF (by omega) h8 (by omega) (by omega) (by omega) (by omega) _ hRF) (by first | (rintro _ _ _ _ ⟨h, -⟩; exact ⟨_, h⟩) | (rintro _ _ _ _ ⟨_, h, -⟩; exact ⟨_, h⟩) | (rintro _ _ _ _ ⟨_, _, h, -⟩; exact ⟨_, h⟩) | (rintro _ _ _ _ ⟨_, _, _, h, -⟩; exact ⟨_, h⟩) | (rintro _ _ _ _ ⟨_, _, _, _, h, -⟩; exact ⟨_, h⟩)) (by first | assumption | omega) (Nat.le_of_ble_eq_true rfl) (fun v3 μ3 k3 n3 hk3 hn3 hQ3 => ?_)
  obtain ⟨αG, hRG, y1, c2', y2, y3⟩ := hQ3
  cases y1
  unfold gL at y3
  rw [hsql] at y3
  -- Work behind the parting
  have hWx : WK (aset α2 ga (oL (gq.map (·.1)) cgF)) (wput w2 1 dp (ga, cgF)) dp := hW2.upd (by omega) hent1 ⟨_, aset_s⟩ f6 f7 (fun x o hx ho => (aset_n hx).trans ho)
  have hent2' : (wput w2 1 dp (ga, cgF)).2.2 2 dp = some (sa, cs) := by rw [wput_n (fun e => by omega)]; exact hent2
  have hWF : WK αF (wput (wput w2 1 dp (ga, cgF)) 2 dp (sa, csF)) dp := hWx.upd (by omega) hent2' ⟨_, f2⟩ f8 f9 (fun x o hx ho => by
    by_cases e : x = ga
    · subst e
      rw [aset_s] at ho
      cases ho
      exact f1
    · rw [aset_n e] at ho
      exact f5 x o ho e hx)
  have hsmA : wSm α2 w2 (wput w2 1 dp (ga, cgF)) not0 dp := wSm_put (Or.inl ⟨_, hent1⟩) (show (1 : Nat) ≠ 0 by omega) (Nat.le_refl _)
  have hsmB : wSm α2 (wput w2 1 dp (ga, cgF)) (wput (wput w2 1 dp (ga, cgF)) 2 dp (sa, csF)) not0 dp := wSm_put (Or.inl ⟨_, hent2'⟩) (show (2 : Nat) ≠ 0 by omega) (Nat.le_refl _)
  have hentG1 : (wput (wput w2 1 dp (ga, cgF)) 2 dp (sa, csF)).2.2 1 dp = some (ga, cgF) := by rw [wput_n (fun e => by omega)]; exact wput_s
  have hentG2 : (wput (wput w2 1 dp (ga, cgF)) 2 dp (sa, csF)).2.2 2 dp = some (sa, csF) := wput_s
  have hentG : ∀ kd j, ¬ ((kd = 1 ∨ kd = 2) ∧ j = dp) → (wput (wput w2 1 dp (ga, cgF)) 2 dp (sa, csF)).2.2 kd j = w.2.2 kd j := by
    intro kd j hne
    rw [wput_n (fun e => hne ⟨Or.inr e.1, e.2⟩), wput_n (fun e => hne ⟨Or.inl e.1, e.2⟩), ← hw2, wput_n (fun e => hne ⟨Or.inr e.1, e.2⟩), wput_n (fun e => hne ⟨Or.inl e.1, e.2⟩)]
  have hwG1 : (wput (wput w2 1 dp (ga, cgF)) 2 dp (sa, csF)).1 = w.1 := by rw [← hw2]; rfl
  have hsmG : wSm α w (wput (wput w2 1 dp (ga, cgF)) 2 dp (sa, csF)) not0 dp := hsm12.tr (hsmA.tr hsmB (fun x o h => ⟨o, h⟩)) hdom12
  generalize hwG : wput (wput w2 1 dp (ga, cgF)) 2 dp (sa, csF) = wG at *
  have hfpG : ∀ x o, α x = some o → ¬ wFp w dp x → ¬ wFp wG dp x := fun x o hx hf hf' => by
    rcases hsmG.fp hf' with h' | h'
    · exact hf h'
    · rw [hx] at h'; cases h'
  obtain ⟨oc, hoc, -⟩ := Th.all_at _ _ hT cl hclin
  have hclG : αG cl = some (oL (sq.map (·.1)) c2') := by rw [y2]; exact aset_s
  have hkG : ∀ x o, x ≠ cl → αF x = some o → αG x = some o := fun x o hx ho => by rw [y2]; exact (aset_n hx).trans ho
  have hWG : WK αG wG dp := hWF.chgL hclF hclG (hfpG cl oc hoc (hnode cl hclin)) hkG
  have hkeepG : ∀ x o, α x = some o → ¬ wFp w dp x → x ≠ cl → αG x = some o := fun x o hx hf hc => by
    obtain ⟨q1, q2, q3⟩ := hkeep2 x o hx hf
    exact hkG x o hc (f5 x o q1 q2 q3)
  have hdomG : ∀ x o, α x = some o → ∃ o', αG x = some o' := fun x o hx => by
    obtain ⟨o2, h2⟩ := hdom12 x o hx
    by_cases e1 : x = cl
    · exact ⟨_, e1 ▸ hclG⟩
    · by_cases e2 : x = ga
      · exact ⟨_, hkG x _ e1 (e2 ▸ f1)⟩
      · by_cases e3 : x = sa
        · exact ⟨_, hkG x _ e1 (e3 ▸ f2)⟩
        · exact ⟨_, hkG x _ e1 (f5 x o2 h2 e2 e3)⟩
  have hmsgG : ∀ x m, αF x = some (oW (mC m)) → αG x = some (oW (mC m)) := fun x m hx => hkG x _ (fun e => by rw [e, hclF] at hx; cases hx) hx
  -- the page and its children are apart
  have hnd' := hnd
  rw [ownF_app, ownF_cons] at hnd'
  have hpcl : p ≠ cp ∧ p ≠ cl ∧ cp ≠ cl := by
    have := (List.nodup_append.mp hnd).1
    simp at this
    exact ⟨this.1.1, this.1.2, this.2⟩
  have hsepO : ∀ x ∈ ownF now h (A ++ c :: Bk), x ≠ p ∧ x ≠ cp ∧ x ≠ cl := fun x hx => by
    have := (List.nodup_append.mp hnd).2.2
    exact ⟨fun e => this p (by simp) x hx e.symm, fun e => this cp (by simp) x hx e.symm, fun e => this cl (by simp) x hx e.symm⟩
  have hsepK : ∀ c' ∈ A ++ c :: Bk, ∀ x ∈ allT h c'.2.2, x ≠ p ∧ x ≠ cp ∧ x ≠ cl := fun c' hc' x hx => by
    rcases allT_or h c'.2.2 x (hinF c' hc') hx with h1 | h1
    · exact hsepO x (List.mem_flatMap.mpr ⟨c', hc', h1⟩)
    · exact ⟨fun e => (hown p (by simp)).1 (e ▸ h1), fun e => (hown cp (by simp)).1 (e ▸ h1), fun e => (hown cl (by simp)).1 (e ▸ h1)⟩
  have hTGk : ∀ c' ∈ A ++ c :: Bk, Th αG h c'.2.2 := fun c' hc' => Th.keptT _ _ (hTF.2.2.2.2 c' hc') (fun x o hx ho => hkG x o (hsepK c' hc' x hx).2.2 ho) hmsgG
  have hTG : Th αG (h + 1) (mkN p cp cl now (A ++ c :: Bk) sq c1 c2') := ⟨hkG _ _ hpcl.2.1 hTF.1, hkG _ _ hpcl.2.2 hTF.2.1, hclG, fun q hq => hmsgG _ _ (f4 q hq), hTGk⟩
  have hgaG : αG ga = some (oL (gq.map (·.1)) cgF) := hkG _ _ nclga.symm f1
  have hownc : ∀ x ∈ ownT now h c.2.2, x ∈ ownF now h (A ++ c :: Bk) := fun x hx => List.mem_flatMap.mpr ⟨c, hcm, hx⟩
  have hownd : ∀ x ∈ [p, cp, cl] ++ ownF now h (A ++ c :: Bk), ∃ o, α x = some o := fun x hx => by
    rcases List.mem_append.mp hx with hx | hx
    · obtain ⟨o, ho, -⟩ := Th.all_at _ _ hT x (List.mem_append_left _ hx)
      exact ⟨o, ho⟩
    · obtain ⟨c', hc', hx⟩ := List.mem_flatMap.mp hx
      obtain ⟨o, ho, -⟩ := Th.all_at _ _ hT x (hkin c' hc' x (ownT_all h c'.2.2 x hx))
      exact ⟨o, ho⟩
  have hPre : PreT αG Fz now c.1 c.2.1 wG (dp + 1) h c.2.2 := by
    refine ⟨hTGk c hcm, hcw, kc2, hinF c hcm, ?_, fun x hx => (hown x (List.mem_append_right _ (hownc x hx))).1, fun x hx => ?_, hWG.deep (Nat.le_succ _), by omega, fun x hx hf => ?_, fun x hx hf => ?_⟩
    · exact (List.nodup_append.mp (List.nodup_append.mp (List.nodup_append.mp hnd').2.1).2.1).1
    · obtain ⟨o, ho⟩ := (hFz x hx).1
      exact hdomG x o ho
    · obtain ⟨o, ho⟩ := hownd x (List.mem_append_right _ (hownc x hx))
      exact hfpG x o ho (hown x (List.mem_append_right _ (hownc x hx))).2 (wFp_mono hf (Nat.le_succ _))
    · obtain ⟨o, ho⟩ := (hFz x hx).1
      exact hfpG x o ho (hFz x hx).2 (wFp_mono hf (Nat.le_succ _))
  have hgls : lsOk c.1 c.2.1 gq := by
    intro q hq
    have : q.2 ∈ goL c.1 c.2.1 (ls.map (·.2)) := by rw [← hgq]; exact List.mem_map.mpr ⟨q, hq, rfl⟩
    unfold goL at this
    obtain ⟨m, hm, e⟩ := List.mem_map.mp this
    obtain ⟨hm1, hm2⟩ := List.mem_filter.mp hm
    obtain ⟨q1, q2, q3⟩ := cut_ok (hoks1 m hm1) (hit_in.mp hm2) (by rw [i_le]; exact kc2)
    rw [← e]
    exact ⟨q1, q2, q3⟩
  have hpg' : puts gq = pM (goL c.1 c.2.1 (ls.map (·.2))) := puts_pM hgq
  have hps' : puts sq = pM (stL c.1 c.2.1 (ls.map (·.2))) := puts_pM hsq
  have hnRg : nR gq = hcR (ls.map (·.2)) c.1 c.2.1 := by rw [nR_ls, hgq]; exact goL_R
  have hincg : inc h (c.1, c.2.1, c.2.2) gq = I0 + (39 + 4 * h) * pM (goL c.1 c.2.1 (ls.map (·.2))) := by
    rw [inc_ls, hgq, ← hI0]
  have hWtG : Wt wG h (dp + 1) = Wt w h (dp + 1) := Wt_le (fun kd j _ hj => by rw [hentG kd j (fun e => by omega)])
  have hwtc := ksum_mem (f := fun c : Kid h => wt h c.2.2) hcm
  have hkpg : ksum (fun c : Kid h => Pg now h c.2.2) (A ++ c :: Bk) = ksum (fun c : Kid h => Pg now h c.2.2) A + (Pg now h c.2.2 + ksum (fun c : Kid h => Pg now h c.2.2) Bk) := by rw [ksum_app, ksum_cons]
  have hkxr : ksum (fun c : Kid h => Xr h c.2.2) (A ++ c :: Bk) = ksum (fun c : Kid h => Xr h c.2.2) A + (Xr h c.2.2 + ksum (fun c : Kid h => Xr h c.2.2) Bk) := by rw [ksum_app, ksum_cons]
  have hkwt : ksum (fun c : Kid h => wt h c.2.2) (A ++ c :: Bk) = ksum (fun c : Kid h => wt h c.2.2) A + (wt h c.2.2 + ksum (fun c : Kid h => wt h c.2.2) Bk) := by rw [ksum_app, ksum_cons]
  rw [hkpg, hkxr] at hn
  obtain ⟨mG1, ⟨xG, yG, xsG, zsG, mG2, mG3, mG4, eG1, eG2, hleG, hcapG, htG, huG⟩, -, -, hcellG⟩ := hTG.nodeC hRG
  rw [kA_len] at mG2 hleG htG huG
  obtain ⟨fsG, hfsG⟩ := hcellG c hcm
  have hxj : xsG[i]? = some (some (adr h c.2.2)) := by
    have : (xsG.take (A ++ c :: Bk).length)[i]? = some (some (adr h c.2.2)) := by rw [htG, List.getElem?_map, kA_at hci]; rfl
    rwa [List.getElem?_take, if_pos hilen] at this
  have hixG : ix xsG (nI i) = some (some (adr h c.2.2)) := by rw [ix_n (by omega)]; exact hxj
  have hcrc := hcr c hcm
  have hcall := ih (d - 1) k3 n3 αG c.2.2 c.1 c.2.1 now ga cgF gq wG (dp + 1) Fz hPre hgaG (fun q hq => hmsgG _ _ (f3 q hq)) hgls (fun hx => (hpne ga (hkin c hcm ga (ownT_all h c.2.2 ga hx))).1 rfl) (hWG.notdeep (by omega) hentG1 (by omega)) (by rw [hpg']; omega) (by rw [hnRg]; exact hcrc) (by rw [hincg, hWtG]; omega) (by omega) (by omega) _ hRG
  rw [hwG1] at hcall
  first | refine b_aload_n dX11_send_176 rfl ?_ | refine b_aload_nN dX11_send_176 rfl ?_
  refine b_getf dX11_send_177 f11_9 (by first | assumption | exact mset_s | exact Rep.raw (by assumption) (by assumption) | (refine (mset_n (by first | assumption | exact Ne.symm (by assumption) | exact ne_fr (by assumption) (by assumption) | exact Ne.symm (ne_fr (by assumption) (by assumption)))).trans ?_; first | assumption | exact mset_s | exact Rep.raw (by assumption) (by assumption) | (refine (mset_n (by first | assumption | exact Ne.symm (by assumption) | exact ne_fr (by assumption) (by assumption) | exact Ne.symm (ne_fr (by assumption) (by assumption)))).trans ?_; first | assumption | exact mset_s | exact Rep.raw (by assumption) (by assumption) | (refine (mset_n (by first | assumption | exact Ne.symm (by assumption) | exact ne_fr (by assumption) (by assumption) | exact Ne.symm (ne_fr (by assumption) (by assumption)))).trans ?_; first | assumption | exact mset_s | exact Rep.raw (by assumption) (by assumption) | (refine (mset_n (by first | assumption | exact Ne.symm (by assumption) | exact ne_fr (by assumption) (by assumption) | exact Ne.symm (ne_fr (by assumption) (by assumption)))).trans ?_; first | assumption | exact mset_s | exact Rep.raw (by assumption) (by assumption) | (refine (mset_n (by first | assumption | exact Ne.symm (by assumption) | exact ne_fr (by assumption) (by assumption) | exact Ne.symm (ne_fr (by assumption) (by assumption)))).trans ?_; first | assumption | exact mset_s | exact Rep.raw (by assumption) (by assumption) | (refine (mset_n (by first | assumption | exact Ne.symm (by assumption) | exact ne_fr (by assumption) (by assumption) | exact Ne.symm (ne_fr (by assumption) (by assumption)))).trans ?_; first | assumption | exact mset_s | exact Rep.raw (by assumption) (by assumption) | (refine (mset_n (by first | assumption | exact Ne.symm (by assumption) | exact ne_fr (by assumption) (by assumption) | exact Ne.symm (ne_fr (by assumption) (by assumption)))).trans ?_; assumption)))))))) rfl ?_
  refine b_iload_n dX11_send_180 rfl ?_
  first | refine b_aload_n dX11_send_181 rfl ?_ | refine b_aload_nN dX11_send_181 rfl ?_
  refine b_getf dX11_send_182 f11_9 (by first | assumption | exact mset_s | exact Rep.raw (by assumption) (by assumption) | (refine (mset_n (by first | assumption | exact Ne.symm (by assumption) | exact ne_fr (by assumption) (by assumption) | exact Ne.symm (ne_fr (by assumption) (by assumption)))).trans ?_; first | assumption | exact mset_s | exact Rep.raw (by assumption) (by assumption) | (refine (mset_n (by first | assumption | exact Ne.symm (by assumption) | exact ne_fr (by assumption) (by assumption) | exact Ne.symm (ne_fr (by assumption) (by assumption)))).trans ?_; first | assumption | exact mset_s | exact Rep.raw (by assumption) (by assumption) | (refine (mset_n (by first | assumption | exact Ne.symm (by assumption) | exact ne_fr (by assumption) (by assumption) | exact Ne.symm (ne_fr (by assumption) (by assumption)))).trans ?_; first | assumption | exact mset_s | exact Rep.raw (by assumption) (by assumption) | (refine (mset_n (by first | assumption | exact Ne.symm (by assumption) | exact ne_fr (by assumption) (by assumption) | exact Ne.symm (ne_fr (by assumption) (by assumption)))).trans ?_; first | assumption | exact mset_s | exact Rep.raw (by assumption) (by assumption) | (refine (mset_n (by first | assumption | exact Ne.symm (by assumption) | exact ne_fr (by assumption) (by assumption) | exact Ne.symm (ne_fr (by assumption) (by assumption)))).trans ?_; first | assumption | exact mset_s | exact Rep.raw (by assumption) (by assumption) | (refine (mset_n (by first | assumption | exact Ne.symm (by assumption) | exact ne_fr (by assumption) (by assumption) | exact Ne.symm (ne_fr (by assumption) (by assumption)))).trans ?_; first | assumption | exact mset_s | exact Rep.raw (by assumption) (by assumption) | (refine (mset_n (by first | assumption | exact Ne.symm (by assumption) | exact ne_fr (by assumption) (by assumption) | exact Ne.symm (ne_fr (by assumption) (by assumption)))).trans ?_; assumption)))))))) rfl ?_
  refine b_getf dX11_send_185 f11_40 (by first | assumption | exact mset_s | exact Rep.raw (by assumption) (by assumption) | (refine (mset_n (by first | assumption | exact Ne.symm (by assumption) | exact ne_fr (by assumption) (by assumption) | exact Ne.symm (ne_fr (by assumption) (by assumption)))).trans ?_; first | assumption | exact mset_s | exact Rep.raw (by assumption) (by assumption) | (refine (mset_n (by first | assumption | exact Ne.symm (by assumption) | exact ne_fr (by assumption) (by assumption) | exact Ne.symm (ne_fr (by assumption) (by assumption)))).trans ?_; first | assumption | exact mset_s | exact Rep.raw (by assumption) (by assumption) | (refine (mset_n (by first | assumption | exact Ne.symm (by assumption) | exact ne_fr (by assumption) (by assumption) | exact Ne.symm (ne_fr (by assumption) (by assumption)))).trans ?_; first | assumption | exact mset_s | exact Rep.raw (by assumption) (by assumption) | (refine (mset_n (by first | assumption | exact Ne.symm (by assumption) | exact ne_fr (by assumption) (by assumption) | exact Ne.symm (ne_fr (by assumption) (by assumption)))).trans ?_; first | assumption | exact mset_s | exact Rep.raw (by assumption) (by assumption) | (refine (mset_n (by first | assumption | exact Ne.symm (by assumption) | exact ne_fr (by assumption) (by assumption) | exact Ne.symm (ne_fr (by assumption) (by assumption)))).trans ?_; first | assumption | exact mset_s | exact Rep.raw (by assumption) (by assumption) | (refine (mset_n (by first | assumption | exact Ne.symm (by assumption) | exact ne_fr (by assumption) (by assumption) | exact Ne.symm (ne_fr (by assumption) (by assumption)))).trans ?_; first | assumption | exact mset_s | exact Rep.raw (by assumption) (by assumption) | (refine (mset_n (by first | assumption | exact Ne.symm (by assumption) | exact ne_fr (by assumption) (by assumption) | exact Ne.symm (ne_fr (by assumption) (by assumption)))).trans ?_; assumption)))))))) rfl ?_
  refine b_iload_n dX11_send_188 rfl ?_
  refine b_aald dX11_send_189 (by first | assumption | exact mset_s | exact Rep.raw (by assumption) (by assumption) | (refine (mset_n (by first | assumption | exact Ne.symm (by assumption) | exact ne_fr (by assumption) (by assumption) | exact Ne.symm (ne_fr (by assumption) (by assumption)))).trans ?_; first | assumption | exact mset_s | exact Rep.raw (by assumption) (by assumption) | (refine (mset_n (by first | assumption | exact Ne.symm (by assumption) | exact ne_fr (by assumption) (by assumption) | exact Ne.symm (ne_fr (by assumption) (by assumption)))).trans ?_; first | assumption | exact mset_s | exact Rep.raw (by assumption) (by assumption) | (refine (mset_n (by first | assumption | exact Ne.symm (by assumption) | exact ne_fr (by assumption) (by assumption) | exact Ne.symm (ne_fr (by assumption) (by assumption)))).trans ?_; first | assumption | exact mset_s | exact Rep.raw (by assumption) (by assumption) | (refine (mset_n (by first | assumption | exact Ne.symm (by assumption) | exact ne_fr (by assumption) (by assumption) | exact Ne.symm (ne_fr (by assumption) (by assumption)))).trans ?_; first | assumption | exact mset_s | exact Rep.raw (by assumption) (by assumption) | (refine (mset_n (by first | assumption | exact Ne.symm (by assumption) | exact ne_fr (by assumption) (by assumption) | exact Ne.symm (ne_fr (by assumption) (by assumption)))).trans ?_; first | assumption | exact mset_s | exact Rep.raw (by assumption) (by assumption) | (refine (mset_n (by first | assumption | exact Ne.symm (by assumption) | exact ne_fr (by assumption) (by assumption) | exact Ne.symm (ne_fr (by assumption) (by assumption)))).trans ?_; first | assumption | exact mset_s | exact Rep.raw (by assumption) (by assumption) | (refine (mset_n (by first | assumption | exact Ne.symm (by assumption) | exact ne_fr (by assumption) (by assumption) | exact Ne.symm (ne_fr (by assumption) (by assumption)))).trans ?_; assumption)))))))) (by decide) (by first | assumption | exact ix_D (by first | assumption | omega) (by first | assumption | omega)) ?_
  first | refine b_aload dX11_send_190 rfl ?_ | refine b_aloadN dX11_send_190 rfl ?_
  refine b_iload_n dX11_send_192 rfl ?_
  refine b_iload dX11_send_193 rfl ?_
  refine b_iload dX11_send_195 rfl ?_
  first | refine b_aload dX11_send_197 rfl ?_ | refine b_aloadN dX11_send_197 rfl ?_
  refine b_iload dX11_send_199 rfl ?_
  refine b_iconst (v := 1) dX11_send_201 (by decide) ?_
  first | refine b_iaddK (c := 1) dX11_send_202 (by decide) ?_ | refine b_iadd dX11_send_202 ?_
  refine b_call (As := [.ref (adr h c.2.2), .ref ga, .int now, .int c.1, .int c.2.1, .ref w.1, .int (nI (dp + 1))]) (rest := [.int (nI i), .ref cp]) sTake dX11_send_203 rfl rfl (fun ci hci => by cases hci; exact ⟨_, _, _, rfl, by first | assumption | exact mset_s | exact Rep.raw (by assumption) (by assumption) | (refine (mset_n (by first | assumption | exact Ne.symm (by assumption) | exact ne_fr (by assumption) (by assumption) | exact Ne.symm (ne_fr (by assumption) (by assumption)))).trans ?_; first | assumption | exact mset_s | exact Rep.raw (by assumption) (by assumption) | (refine (mset_n (by first | assumption | exact Ne.symm (by assumption) | exact ne_fr (by assumption) (by assumption) | exact Ne.symm (ne_fr (by assumption) (by assumption)))).trans ?_; first | assumption | exact mset_s | exact Rep.raw (by assumption) (by assumption) | (refine (mset_n (by first | assumption | exact Ne.symm (by assumption) | exact ne_fr (by assumption) (by assumption) | exact Ne.symm (ne_fr (by assumption) (by assumption)))).trans ?_; first | assumption | exact mset_s | exact Rep.raw (by assumption) (by assumption) | (refine (mset_n (by first | assumption | exact Ne.symm (by assumption) | exact ne_fr (by assumption) (by assumption) | exact Ne.symm (ne_fr (by assumption) (by assumption)))).trans ?_; first | assumption | exact mset_s | exact Rep.raw (by assumption) (by assumption) | (refine (mset_n (by first | assumption | exact Ne.symm (by assumption) | exact ne_fr (by assumption) (by assumption) | exact Ne.symm (ne_fr (by assumption) (by assumption)))).trans ?_; first | assumption | exact mset_s | exact Rep.raw (by assumption) (by assumption) | (refine (mset_n (by first | assumption | exact Ne.symm (by assumption) | exact ne_fr (by assumption) (by assumption) | exact Ne.symm (ne_fr (by assumption) (by assumption)))).trans ?_; first | assumption | exact mset_s | exact Rep.raw (by assumption) (by assumption) | (refine (mset_n (by first | assumption | exact Ne.symm (by assumption) | exact ne_fr (by assumption) (by assumption) | exact Ne.symm (ne_fr (by assumption) (by assumption)))).trans ?_; assumption)))))))⟩) (hcall) (by first | (rintro _ _ _ _ ⟨h, -⟩; exact ⟨_, h⟩) | (rintro _ _ _ _ ⟨_, h, -⟩; exact ⟨_, h⟩) | (rintro _ _ _ _ ⟨_, _, h, -⟩; exact ⟨_, h⟩) | (rintro _ _ _ _ ⟨_, _, _, h, -⟩; exact ⟨_, h⟩) | (rintro _ _ _ _ ⟨_, _, _, _, h, -⟩; exact ⟨_, h⟩)) (by first | assumption | omega) (Nat.le_of_ble_eq_true rfl) (fun v4 μ4 k4 n4 hk4 hn4 hQ4 => ?_)
  obtain ⟨α4, hR4, ca, cc, x1, ts, w4, hRst, hbud4, hkn4⟩ := hQ4
  cases x1
  have hRst0 := hRst
  obtain ⟨r1, r2, r3, r4, r5, r6, r7, r8, r9, r10, r11, r12, r13, r14, r15, r16, r17, r18, r19, r20⟩ := hRst
  have hpgG : ∀ x, isPg α x → isPg αG x := by
    intro x hx
    have h2 : isPg α2 x := by
      rcases hx with ⟨fs, h'⟩ | ⟨fs, h'⟩
      · exact Or.inl ⟨fs, (hkeep2 x _ h' (hW.pg (Or.inl ⟨fs, h'⟩))).1⟩
      · exact Or.inr ⟨fs, (hkeep2 x _ h' (hW.pg (Or.inr ⟨fs, h'⟩))).1⟩
    have hne : ∀ y o, α2 y = some o → (∀ cl, o ≠ oW cl) → x ≠ y := fun y o hy hn9 e => by
      rcases h2 with ⟨fs, h'⟩ | ⟨fs, h'⟩ <;> (rw [e, hy] at h'; exact hn9 _ (Option.some.inj h'))
    have hxga := hne ga _ hga2 oL_ne
    have hxsa := hne sa _ hsa2 oL_ne
    have hxcl := hne cl _ hT2.2.2.1 oL_ne
    rcases h2 with ⟨fs, h'⟩ | ⟨fs, h'⟩
    · exact Or.inl ⟨fs, hkG x _ hxcl (f5 x _ h' hxga hxsa)⟩
    · exact Or.inr ⟨fs, hkG x _ hxcl (f5 x _ h' hxga hxsa)⟩
  have hGS : GS dp h p cp cl c1 c2' now α αG w wG (A ++ c :: Bk) sq := ⟨hTG, hWG, hsmG, hkeepG, hdomG, hpgG⟩
  obtain ⟨-, s1, s2, -⟩ := send_sep hF0 hGS
  have hcp4 : α4 cp = some (oP (kA (A ++ c :: Bk)) c1) := r18 cp _ hTG.2.1 (s1 cp (by simp)).1 (fun hf => (s2 cp (by simp)).2 (wFp_mono hf (Nat.le_succ _)))
  have hpg4 : allG α4 (kA (A ++ c :: Bk)) := fun z hz => by
    obtain ⟨c', hc', rfl⟩ := List.mem_map.mp hz
    exact r19 _ (hTGk c' hc').pg
  have hpgt : allG α4 (kA ts) := fun z hz => by
    obtain ⟨c', hc', rfl⟩ := List.mem_map.mp hz
    exact (r5 c' hc').pg
  have ncpca : cp ≠ ca := fun e => by
    have hf : wFp w4 (dp + 1) cp := Or.inr ⟨3, dp + 1, cc, by decide, Nat.le_refl _, e ▸ r1⟩
    rcases r17.fp hf with h' | h'
    · exact (s2 cp (by simp)).2 (wFp_mono h' (Nat.le_succ _))
    · rw [hTG.2.1] at h'; cases h'
  have htl := ks_len r6
  obtain ⟨l1, l2, l3, l4, l5, l6, l7, l8, l9, l10, l11, l12⟩ := send_law hch hwf hls hcr hhr hgq hsq r3 r4 r6 r11 r12 r13 r14 r15
  rw [hpg'] at r12
  rw [hincg, hWtG] at hbud4
  obtain ⟨xx4, yy4, xs4, zs4, mcp4, -⟩ := hR4.pgs hcp4
  have htsl : (kA ts).length = ts.length := kA_len
  have hksl : (kA (A ++ c :: Bk)).length = (A ++ c :: Bk).length := kA_len
  have hcrd := send_credit hch r4 hwA hcw hwB r6 hoks2
  rw [hN, hE, hX0, hI0] at hcrd
  have hM320 : (A ++ c :: Bk).length ≤ 320 := len_320' hklen hwt
  have ht320 : ts.length ≤ 320 := len_320 htl r12 hwtc hwt (Nat.le_trans (Nat.le_add_left _ _) (Nat.le_of_eq (hsp.trans hpls.symm)))
  obtain ⟨h640, h641⟩ := add_640 hM320 ht320
  have hgP2 : 8 * ((A ++ c :: Bk).length + (ts.length - 1)) ≤ n4 + 4 * c1 := send_pre hpsi1 hpsi2 f10 ⟨y3.1, y3.2.1, y3.2.2.1⟩ (Nat.le_trans hstE (Nat.add_le_add_right hB E)) hbud4 hcrd hm39 hn
  have hgP1 := put_2 hgP2 hkn4
  refine b_call (As := [.ref cp, .int (nI i), .ref ca]) (rest := []) s11_134 dX11_send_206 rfl rfl (fun ci hci => by cases hci; exact ⟨_, _, _, rfl, by first | assumption | exact mset_s | exact Rep.raw (by assumption) (by assumption) | (refine (mset_n (by first | assumption | exact Ne.symm (by assumption) | exact ne_fr (by assumption) (by assumption) | exact Ne.symm (ne_fr (by assumption) (by assumption)))).trans ?_; first | assumption | exact mset_s | exact Rep.raw (by assumption) (by assumption) | (refine (mset_n (by first | assumption | exact Ne.symm (by assumption) | exact ne_fr (by assumption) (by assumption) | exact Ne.symm (ne_fr (by assumption) (by assumption)))).trans ?_; first | assumption | exact mset_s | exact Rep.raw (by assumption) (by assumption) | (refine (mset_n (by first | assumption | exact Ne.symm (by assumption) | exact ne_fr (by assumption) (by assumption) | exact Ne.symm (ne_fr (by assumption) (by assumption)))).trans ?_; first | assumption | exact mset_s | exact Rep.raw (by assumption) (by assumption) | (refine (mset_n (by first | assumption | exact Ne.symm (by assumption) | exact ne_fr (by assumption) (by assumption) | exact Ne.symm (ne_fr (by assumption) (by assumption)))).trans ?_; first | assumption | exact mset_s | exact Rep.raw (by assumption) (by assumption) | (refine (mset_n (by first | assumption | exact Ne.symm (by assumption) | exact ne_fr (by assumption) (by assumption) | exact Ne.symm (ne_fr (by assumption) (by assumption)))).trans ?_; first | assumption | exact mset_s | exact Rep.raw (by assumption) (by assumption) | (refine (mset_n (by first | assumption | exact Ne.symm (by assumption) | exact ne_fr (by assumption) (by assumption) | exact Ne.symm (ne_fr (by assumption) (by assumption)))).trans ?_; first | assumption | exact mset_s | exact Rep.raw (by assumption) (by assumption) | (refine (mset_n (by first | assumption | exact Ne.symm (by assumption) | exact ne_fr (by assumption) (by assumption) | exact Ne.symm (ne_fr (by assumption) (by assumption)))).trans ?_; assumption)))))))⟩) (sp_put (d := d - 1) hcp4 ncpca r2 hpg4 hpgt (by rw [htsl]; exact r3) (by rw [hksl]; exact hilen) (by rw [hksl, htsl]; exact h640) h4 (Nat.le_trans h4' (by decide)) (by rw [hksl, htsl]; exact hgP1) (by rw [hksl, htsl]; exact hgP2) hd1 _ hR4) (by first | (rintro _ _ _ _ ⟨h, -⟩; exact ⟨_, h⟩) | (rintro _ _ _ _ ⟨_, h, -⟩; exact ⟨_, h⟩) | (rintro _ _ _ _ ⟨_, _, h, -⟩; exact ⟨_, h⟩) | (rintro _ _ _ _ ⟨_, _, _, h, -⟩; exact ⟨_, h⟩) | (rintro _ _ _ _ ⟨_, _, _, _, h, -⟩; exact ⟨_, h⟩)) (by first | assumption | omega) (Nat.le_of_ble_eq_true rfl) (fun v5 μ5 k5 n5 hk5 hn5 hQ5 => ?_)
  obtain ⟨α5, hR5, v1, c1', v2, v3⟩ := hQ5
  cases v1
  unfold gP at v3
  rw [kA_put hA] at v2
  rw [hksl, htsl] at v3
  refine b_vret dX11_send_209 rfl ?_
  subst hQ0
  have hcp5 : α5 cp = some (oP (kA (A ++ (ts ++ Bk))) c1') := by rw [v2]; exact aset_s
  have hk5 : ∀ x o, x ≠ cp → α4 x = some o → α5 x = some o := fun x o hx ho => by rw [v2]; exact (aset_n hx).trans ho
  obtain ⟨e1', e2', e3', e4', e5', e6', e7', e8', e9', e10', e11'⟩ := send_mem hF0 hGS hRst0 hcp5 hk5
  have hlen' : (A ++ (ts ++ Bk)).length = (A ++ c :: Bk).length + (ts.length - 1) := len_sub (by rw [List.length_append, List.length_append, List.length_append, List.length_cons]; simp only [Nat.add_assoc, Nat.add_comm, Nat.add_left_comm]) r3
  have hWt4 : Wt w4 (h + 1) dp = (17600 - 2 * cgF) + ((17600 - 2 * csF) + (psiK 3 (w.2.2 3 dp) + Wt w4 h (dp + 1))) := by
    show psiK 1 (w4.2.2 1 dp) + (psiK 2 (w4.2.2 2 dp) + (psiK 3 (w4.2.2 3 dp) + Wt w4 h (dp + 1))) = _
    rw [r17.2.2.1 1 dp (Or.inr (Nat.lt_succ_self _)), r17.2.2.1 2 dp (Or.inr (Nat.lt_succ_self _)), r17.2.2.1 3 dp (Or.inr (Nat.lt_succ_self _)), hentG1, hentG2, hentG 3 dp (fun e => by rcases e.1 with e | e <;> cases e)]
    rfl
  have hbudF : n + Tht now h w4 dp (A ++ (ts ++ Bk)) sq c1' c2' (B + E) ≤ n5 + Tht now h w dp (A ++ c :: Bk) ls c1 c2 B := by
    unfold Tht
    rw [hlen', hkpg, hkxr, hX0, hWt4, hWtd, ksum_app, ksum_app, ksum_app, ksum_app, hsq, hps']
    exact send_num hpsi1 hpsi2 f10 ⟨y3.1, y3.2.1, y3.2.2.1⟩ (Nat.le_trans hstE (Nat.add_le_add_right hB E)) hbud4 ⟨v3.1, v3.2.1, v3.2.2.1⟩ hcrd hm39 r3
  have hkn5 : n5 ≤ 4 * k5 := kn_P v3.1 v3.2.2.1 v3.2.2.2.1 hkn4
  have hc1b := cap_P v3.1 v3.2.1 h4 h4' h641
  have hc2b := cap_L y3.1 y3.2.1 h8 h8' (Nat.le_trans hl2 (by decide))
  have hsqB : sq.length ≤ B + E := by rw [hsqn]; exact Nat.le_trans hstE (Nat.add_le_add_right hB E)
  refine ⟨α5, hR5, rfl, A ++ (ts ++ Bk), sq, c1', c2', w4, B + E, ⟨e1', l1, l2, l3, Nat.le_trans hkk1 l11, e2', e3', e4', e5', e6', hdp, hc1b.1, hc1b.2, hc2b.1, hc2b.2, Nat.le_trans l4 hwt, l5, l6⟩, ⟨l7, l4, l8, l9, l10, l11, e7', e8', e9', e10', e11'⟩, hsqB, Nat.le_add_right _ _, hbudF, hkn5, l12⟩
end SN2
