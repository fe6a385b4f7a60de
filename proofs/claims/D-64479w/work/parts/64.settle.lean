/-! Page.settle: a page that stays as it is; leaves -/
set_option maxRecDepth 100000
section STL
variable {g : Cx} {l : Launch}
theorem rst_same {α α4 α5 : AM} {w : WS} {now lo hi : Int32} {dp h k n ca cc k4 n4 c5 : Nat} {t : PT h} {Fz : Nat → Prop} (hP : PreT α Fz now lo hi w dp h t) (hg : gotW α w dp 3 dp k n ca cc α4 k4 n4) (h5 : α5 = aset α4 ca (oP [(adr h t, lo)] c5)) (hc4 : 4 ≤ c5) (hc8 : c5 ≤ 800) :
    Rst α Fz now lo hi w dp h t (den h t) (wt h t) (Xr h t) α5 (wput w 3 dp (ca, c5)) ca c5 [(lo, hi, t)] := by
  obtain ⟨hT, hw, hlh, hF, hnd, hof, hfd, hW, hdp, how, hfw⟩ := hP
  obtain ⟨q1, q2, q3, q4, q5, q6⟩ := made_keep hW hg
  have hk5 : ∀ x o, α4 x = some o → x ≠ ca → α5 x = some o := fun x o hx hne => by rw [h5]; exact (aset_n hne).trans hx
  have hca5 : α5 ca = some (oP [(adr h t, lo)] c5) := by rw [h5]; exact aset_s
  have hallo : ∀ x ∈ allT h t, ¬ wFp w dp x := fun x hx => by
    rcases allT_or h t x hF hx with h1 | h1
    · exact how x h1
    · exact hfw x h1
  have hT5 : Th α5 h t := Th.keptT _ _ hT (fun x o hx ho => by
    obtain ⟨z1, z2⟩ := q2 x o ho (hallo x hx)
    exact hk5 x o z1 z2) (fun x m hx => by
    obtain ⟨z1, z2⟩ := q5 x m hx
    exact hk5 x _ z1 z2)
  have hW5 : WK α5 (wput w 3 dp (ca, c5)) dp := by
    have := hg.2.1.upd (α' := α5) (kd := 3) (j := dp) (a := ca) (c := cc) (c' := c5) (by decide) wput_s ⟨_, hca5⟩ hc4 hc8 (fun x o hx ho => hk5 x o ho hx)
    rw [wput2] at this
    exact this
  have hof1 : ownF now h [(lo, hi, t)] = ownT now h t := by
    show ownT now h t ++ [] = _
    rw [List.append_nil]
  refine ⟨wput_s, hca5, Nat.le_refl 1, ⟨rfl, hlh, rfl⟩, fun c hc => ?_, fun c hc => ?_, fun c hc => ?_, by rw [hof1]; exact hnd, fun x hx => Or.inl (by rw [hof1] at hx; exact hx), fun x hx hf => ?_, fun x h1 h2 => ?_, ?_, fun hg9 c hc => ?_, fun hg9 => ⟨fun c hc => (by cases hc), fun c hc => ?_⟩, ?_, hW5, wSm_put q6 (by unfold not0; decide) (Nat.le_refl _), fun x o hx h1 h2 => ?_, fun x hx => ?_, fun x o hx => ?_⟩
  · rw [List.mem_singleton.mp hc]; exact hT5
  · rw [List.mem_singleton.mp hc]; exact hw
  · rw [List.mem_singleton.mp hc]; exact hF
  · rw [hof1] at hx
    rcases fp_put hf with h' | h'
    · exact how x hx h'
    · obtain ⟨o, ho, -⟩ := Th.all_at _ _ hT x (ownT_all _ _ x hx)
      exact (q2 x o ho (how x hx)).2 h'
  · rw [dnk_one (by rw [i_le] at h1; exact h1) (by rw [i_le] at h2; exact h2)]
  · rw [ksum_cons, ksum_nil]
    exact Nat.le_refl _
  · rw [List.mem_singleton.mp hc]; exact hg9
  · rw [List.mem_singleton.mp hc]; exact hg9
  · rw [ksum_cons, ksum_nil]
    exact Nat.le_refl _
  · obtain ⟨z1, z2⟩ := q2 x o hx h2
    exact hk5 x o z1 z2
  · obtain ⟨z1, z2⟩ := q4 x hx
    rcases z1 with ⟨fs, z1⟩ | ⟨fs, z1⟩
    · exact Or.inl ⟨fs, hk5 x _ z1 z2⟩
    · exact Or.inr ⟨fs, hk5 x _ z1 z2⟩
  · obtain ⟨o2, ho2⟩ := q3 x o hx
    by_cases e : x = ca
    · exact ⟨_, e ▸ hca5⟩
    · exact ⟨o2, hk5 x _ ho2 e⟩
theorem st_num0 {n n4 n' cc c5 ψ P X : Nat} (h1 : n + (3200 - 4 * cc) ≤ n4 + ψ) (h2 : n' + 4 * c5 = n4 + 4 * cc) (h3 : cc ≤ c5) (h4 : c5 ≤ 800) : n + ((P + 0) + (X + 0)) + 112 * (1 - 1) + (3200 - 4 * c5) ≤ n' + (P + X) + ψ := by omega
theorem st_num1 {n n4 n' cc c5 ψ1 ψ2 ψ W P X : Nat} (h1 : n + (3200 - 4 * cc) ≤ n4 + ψ) (h2 : n' + 4 * c5 = n4 + 4 * cc) (h3 : cc ≤ c5) (h4 : c5 ≤ 800) : n + ((P + 0) + (X + 0)) + 112 * (1 - 1) + (ψ1 + (ψ2 + ((3200 - 4 * c5) + W))) ≤ n' + (P + X) + (ψ1 + (ψ2 + (ψ + W))) := by omega
theorem st_pre {n n4 cc ψ k : Nat} (h1 : n + (3200 - 4 * cc) ≤ n4 + ψ) (hn : ψ ≤ n) (h8 : cc ≤ 800) (h6 : n4 ≤ 4 * k) : 2 * 400 ≤ 2 * k + cc ∧ 8 * 400 ≤ n4 + 4 * cc := by omega
theorem set_leaf : SetS g l 0 := by
  intro d k n α t lo hi now w dp Fz hP hwt hn hkn hd μ hR
  obtain ⟨⟨p, r⟩, o, row, c⟩ := t
  have hP0 := hP
  obtain ⟨hT, hw, hlh, hF, hnd, hof, hfd, hW, hdp, how, hfw⟩ := hP
  have hWt : Wt w 0 dp = psiK 3 (w.2.2 3 dp) := rfl
  have hψ : psiK 3 (w.2.2 3 dp) ≤ n := by
    rw [hWt] at hn
    generalize psiK 3 (w.2.2 3 dp) = ψ at *
    omega
  have mW := hW.flds hR
  show Ms g l d k n M3_settle _ μ _
  refine Ms.of (M := M3_settle) rfl rfl (Nat.le_of_ble_eq_true rfl) ?_
  first | refine b_aload dX3_settle_0 rfl ?_ | refine b_aloadN dX3_settle_0 rfl ?_
  refine b_iload dX3_settle_2 rfl ?_
  refine b_call (As := [.ref w.1, .int (nI dp)]) (rest := []) s3_66 dX3_settle_4 rfl rfl (fun ci hci => by cases hci; exact ⟨_, _, _, rfl, by first | assumption | exact mset_s | exact Rep.raw (by assumption) (by assumption) | (refine (mset_n (by first | assumption | exact Ne.symm (by assumption) | exact ne_fr (by assumption) (by assumption) | exact Ne.symm (ne_fr (by assumption) (by assumption)))).trans ?_; first | assumption | exact mset_s | exact Rep.raw (by assumption) (by assumption) | (refine (mset_n (by first | assumption | exact Ne.symm (by assumption) | exact ne_fr (by assumption) (by assumption) | exact Ne.symm (ne_fr (by assumption) (by assumption)))).trans ?_; first | assumption | exact mset_s | exact Rep.raw (by assumption) (by assumption) | (refine (mset_n (by first | assumption | exact Ne.symm (by assumption) | exact ne_fr (by assumption) (by assumption) | exact Ne.symm (ne_fr (by assumption) (by assumption)))).trans ?_; first | assumption | exact mset_s | exact Rep.raw (by assumption) (by assumption) | (refine (mset_n (by first | assumption | exact Ne.symm (by assumption) | exact ne_fr (by assumption) (by assumption) | exact Ne.symm (ne_fr (by assumption) (by assumption)))).trans ?_; first | assumption | exact mset_s | exact Rep.raw (by assumption) (by assumption) | (refine (mset_n (by first | assumption | exact Ne.symm (by assumption) | exact ne_fr (by assumption) (by assumption) | exact Ne.symm (ne_fr (by assumption) (by assumption)))).trans ?_; first | assumption | exact mset_s | exact Rep.raw (by assumption) (by assumption) | (refine (mset_n (by first | assumption | exact Ne.symm (by assumption) | exact ne_fr (by assumption) (by assumption) | exact Ne.symm (ne_fr (by assumption) (by assumption)))).trans ?_; first | assumption | exact mset_s | exact Rep.raw (by assumption) (by assumption) | (refine (mset_n (by first | assumption | exact Ne.symm (by assumption) | exact ne_fr (by assumption) (by assumption) | exact Ne.symm (ne_fr (by assumption) (by assumption)))).trans ?_; assumption)))))))⟩) (sp_made (d := d - 1) hW (Nat.le_refl _) (by omega) hψ hkn (by omega) _ hR) (by first | (rintro _ _ _ _ ⟨h, -⟩; exact ⟨_, h⟩) | (rintro _ _ _ _ ⟨_, h, -⟩; exact ⟨_, h⟩) | (rintro _ _ _ _ ⟨_, _, h, -⟩; exact ⟨_, h⟩) | (rintro _ _ _ _ ⟨_, _, _, h, -⟩; exact ⟨_, h⟩) | (rintro _ _ _ _ ⟨_, _, _, _, h, -⟩; exact ⟨_, h⟩)) (by first | assumption | omega) (Nat.le_of_ble_eq_true rfl) (fun v4 μ4 k4 n4 hk4 hn4 hQ4 => ?_)
  obtain ⟨α4, hR4, ca, cc, z1, hg⟩ := hQ4
  cases z1
  obtain ⟨q1, q2, -, q4, -⟩ := made_keep hW hg
  have g5 : n + (3200 - 4 * cc) ≤ n4 + psiK 3 (w.2.2 3 dp) := hg.2.2.2.2.1
  have g6 := hg.2.2.2.2.2.1
  have g7 : 4 ≤ cc := hg.2.2.2.2.2.2.1
  have g8 : cc ≤ 800 := hg.2.2.2.2.2.2.2.1
  obtain ⟨xx, yy, xxs, zzs, mca, -⟩ := hR4.pgs q1
  first | refine b_aload_n dX3_settle_7 rfl ?_ | refine b_aload_nN dX3_settle_7 rfl ?_
  refine b_iload_n dX3_settle_8 rfl ?_
  have hpp := st_pre g5 hψ g8 g6
  refine b_call (As := [.ref ca, .ref p, .int lo]) (rest := []) s3_72 dX3_settle_9 rfl rfl (fun ci hci => by cases hci; exact ⟨_, _, _, rfl, by first | assumption | exact mset_s | exact Rep.raw (by assumption) (by assumption) | (refine (mset_n (by first | assumption | exact Ne.symm (by assumption) | exact ne_fr (by assumption) (by assumption) | exact Ne.symm (ne_fr (by assumption) (by assumption)))).trans ?_; first | assumption | exact mset_s | exact Rep.raw (by assumption) (by assumption) | (refine (mset_n (by first | assumption | exact Ne.symm (by assumption) | exact ne_fr (by assumption) (by assumption) | exact Ne.symm (ne_fr (by assumption) (by assumption)))).trans ?_; first | assumption | exact mset_s | exact Rep.raw (by assumption) (by assumption) | (refine (mset_n (by first | assumption | exact Ne.symm (by assumption) | exact ne_fr (by assumption) (by assumption) | exact Ne.symm (ne_fr (by assumption) (by assumption)))).trans ?_; first | assumption | exact mset_s | exact Rep.raw (by assumption) (by assumption) | (refine (mset_n (by first | assumption | exact Ne.symm (by assumption) | exact ne_fr (by assumption) (by assumption) | exact Ne.symm (ne_fr (by assumption) (by assumption)))).trans ?_; first | assumption | exact mset_s | exact Rep.raw (by assumption) (by assumption) | (refine (mset_n (by first | assumption | exact Ne.symm (by assumption) | exact ne_fr (by assumption) (by assumption) | exact Ne.symm (ne_fr (by assumption) (by assumption)))).trans ?_; first | assumption | exact mset_s | exact Rep.raw (by assumption) (by assumption) | (refine (mset_n (by first | assumption | exact Ne.symm (by assumption) | exact ne_fr (by assumption) (by assumption) | exact Ne.symm (ne_fr (by assumption) (by assumption)))).trans ?_; first | assumption | exact mset_s | exact Rep.raw (by assumption) (by assumption) | (refine (mset_n (by first | assumption | exact Ne.symm (by assumption) | exact ne_fr (by assumption) (by assumption) | exact Ne.symm (ne_fr (by assumption) (by assumption)))).trans ?_; assumption)))))))⟩) (sp_padd' (d := d - 1) q1 (q4 p (hT.pg)).1 (fun q hq => by cases hq) (N := 400) (by simp) g7 (by omega) hpp.1 hpp.2 _ hR4) (by first | (rintro _ _ _ _ ⟨h, -⟩; exact ⟨_, h⟩) | (rintro _ _ _ _ ⟨_, h, -⟩; exact ⟨_, h⟩) | (rintro _ _ _ _ ⟨_, _, h, -⟩; exact ⟨_, h⟩) | (rintro _ _ _ _ ⟨_, _, _, h, -⟩; exact ⟨_, h⟩) | (rintro _ _ _ _ ⟨_, _, _, _, h, -⟩; exact ⟨_, h⟩)) (by first | assumption | omega) (Nat.le_of_ble_eq_true rfl) (fun v5 μ5 k5 n5 hk5 hn5 hQ5 => ?_)
  obtain ⟨α5, hR5, x1, c5, x2, x3⟩ := hQ5
  cases x1
  unfold gP at x3
  refine b_aret dX3_settle_12 rfl (Or.inr ⟨_, rfl⟩) ?_
  have hWt' : Wt (wput w 3 dp (ca, c5)) 0 dp = 3200 - 4 * c5 := by
    have h1 : Wt (wput w 3 dp (ca, c5)) 0 dp = psiK 3 ((wput w 3 dp (ca, c5)).2.2 3 dp) := rfl
    rw [h1, wput_s, psi3]
  have hc5 : 4 ≤ c5 ∧ c5 ≤ 800 ∧ n5 ≤ 4 * k5 := by
    clear hn hψ g5 hpp
    omega
  refine ⟨α5, hR5, ca, c5, rfl, [(lo, hi, mkL p r o row c)], wput w 3 dp (ca, c5), rst_same hP0 hg x2 hc5.1 hc5.2.1, ?_, hc5.2.2⟩
  rw [ksum_cons, ksum_nil, ksum_cons, ksum_nil, hWt', hWt]
  exact st_num0 g5 x3.2.2.1 x3.1 hc5.2.1
end STL
