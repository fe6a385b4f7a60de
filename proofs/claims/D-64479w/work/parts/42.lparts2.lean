/-! Leaf.parts: a long row -/
set_option maxRecDepth 100000
def mkL (p r : Nat) (o : Int32) (row : Prs) (c : Nat) : PT 0 := ((p, r), o, row, c)
def mkN {h : Nat} (p cp cl : Nat) (o : Int32) (ks : List (Kid h)) (ls : List (Nat × Msg)) (c1 c2 : Nat) : PT (h + 1) := ((p, cp, cl), o, ks, ls, c1, c2)
section LP2
variable {g : Cx} {l : Launch} {d : Nat} {k n : Nat} {α : AM}
theorem kA_snoc {h : Nat} {ks : List (Kid h)} {c : Kid h} : kA (ks ++ [c]) = kA ks ++ [(adr h c.2.2, c.1)] := by simp [kA]
theorem sp_lparts2 {ra ca cR cc q : Nat} {R : Prs} {now lo hi : Int32} (hra : α ra = some (oR R cR)) (hca : α ca = some (oP [] cc)) (h16 : 16 < R.length) (h26 : R.length ≤ 2600) (hq : q = (R.length + 15) / 16) (hc4 : 4 ≤ cc) (hc8 : cc ≤ 800) (hn : 37 * q + (3200 - 4 * cc) ≤ n) (hkn : n ≤ 4 * k) (hd : 3 ≤ d) :
    aMs g l d k n M3_parts [.ref ra, .int now, .int lo, .ref ca] α (fun o α' k' n' => ∃ (ks : List (Kid 0)) (c' : Nat), o = .returned (some (.ref ca)) ∧ ks.length = q ∧ lfs R q lo hi now ks ∧ (∀ c ∈ ks, Th α' 0 c.2.2) ∧ (ks.flatMap (fun c => allT 0 c.2.2)).Nodup ∧ (∀ c ∈ ks, ∀ x ∈ allT 0 c.2.2, α x = none) ∧ (∀ x o, α x = some o → x ≠ ca → α' x = some o) ∧ α' ca = some (oP (kA ks) c') ∧ 4 ≤ c' ∧ c' ≤ 800 ∧ n + (3200 - 4 * c') ≤ n' + (3200 - 4 * cc) + 37 * q ∧ n' ≤ 4 * k') := by
  intro μ hR
  have hq2 : 2 ≤ q ∧ q ≤ 163 := by omega
  have hq8 : 8 * q ≤ R.length := by omega
  have hq16 : R.length ≤ 16 * q := by omega
  have nrc : ra ≠ ca := fun e => by rw [e, hca] at hra; cases hra
  generalize hQ : (fun (o : Outcome) (μ' : Mem) (k' n' : Nat) => ∃ α', Rep α' μ' ∧ ∃ (ks : List (Kid 0)) (c' : Nat), o = .returned (some (.ref ca)) ∧ ks.length = q ∧ lfs R q lo hi now ks ∧ (∀ c ∈ ks, Th α' 0 c.2.2) ∧ (ks.flatMap (fun c => allT 0 c.2.2)).Nodup ∧ (∀ c ∈ ks, ∀ x ∈ allT 0 c.2.2, α x = none) ∧ (∀ x o, α x = some o → x ≠ ca → α' x = some o) ∧ α' ca = some (oP (kA ks) c') ∧ 4 ≤ c' ∧ c' ≤ 800 ∧ n + (3200 - 4 * c') ≤ n' + (3200 - 4 * cc) + 37 * q ∧ n' ≤ 4 * k') = Q
  have lp : ∀ (f i ci : Nat) (ks : List (Kid 0)) (αi : AM) (μc : Mem) (kc nc : Nat), q - i < f → i ≤ q → Rep αi μc → ks.length = i → lfs R q lo hi now ks → (∀ c ∈ ks, Th αi 0 c.2.2) → (ks.flatMap (fun c => allT 0 c.2.2)).Nodup → (∀ c ∈ ks, ∀ x ∈ allT 0 c.2.2, α x = none) → (∀ x o, α x = some o → x ≠ ca → αi x = some o) → αi ca = some (oP (kA ks) ci) → 4 ≤ ci → ci ≤ 800 → n + (3200 - 4 * ci) ≤ nc + (3200 - 4 * cc) + 37 * i → nc ≤ 4 * kc →
      bB g l M3_parts d Q 41 [(0, .ref ra), (1, .int now), (2, .int lo), (3, .ref ca), (4, .int (nI q)), (5, .int (nI i))] [] μc kc nc := by
    intro f
    induction f with
    | zero => intro i ci ks αi μc kc nc h; omega
    | succ f ihf =>
      intro i ci ks αi μc kc nc hf hi' hRc hlen hlf hTh hnd hfr hkeep hcai hci4 hci8 hbud hknc
      have hrai := hkeep ra _ hra nrc
      obtain ⟨kr, vr, kk, vs, h1, h2, h3, h4, h5, h6, h7, h8, h9⟩ := hRc.row hrai
      have hcap : cR ≤ 1000000 := h7
      refine b_iload dX3_parts_41 rfl ?_
      refine b_iload dX3_parts_43 rfl ?_
      refine b_icmp_ge (tgt := 156) dX3_parts_45 (by decide) (fun h45 => ?_) (fun h45 => ?_)
      · rw [nI_leI (by omega) (by omega)] at h45
        have e : i = q := by omega
        subst e
        first | refine b_aload_n dX3_parts_156 rfl ?_ | refine b_aload_nN dX3_parts_156 rfl ?_
        refine b_aret dX3_parts_157 rfl (Or.inr ⟨_, rfl⟩) ?_
        subst hQ
        exact ⟨αi, hRc, ks, ci, rfl, hlen, hlf, hTh, hnd, hfr, hkeep, hcai, hci4, hci8, hbud, hknc⟩
      · rw [nI_leI (by omega) (by omega)] at h45
        have b1 := sl_lo (m := R.length) (q := q) (j := i) (c := 8) (by omega) (by omega)
        have b2 := sl_hi (m := R.length) (q := q) (j := i) (c := 16) (by omega) (by omega)
        have b3 := sl_top (m := R.length) (q := q) (j := i + 1) (by omega) (by omega)
        have b4 : R.length * i ≤ 2600 * 163 := Nat.mul_le_mul h26 (by omega)
        have b5 : R.length * (i + 1) ≤ 2600 * 163 := Nat.mul_le_mul h26 (by omega)
        refine b_new dX3_parts_48 n3_16 (by omega) (by omega) (fun a48 ha48 => ?_)
        refine b_dup dX3_parts_51 rfl ?_
        have hn0 := hRc.non ha48
        have z := ne_fr ha48 h1
        refine b_call (As := [.ref a48]) (rest := [.ref a48]) s3_53 dX3_parts_52 rfl rfl (fun ci hci => by cases hci; exact ⟨_, _, _, rfl, by first | assumption | exact mset_s | exact Rep.raw (by assumption) (by assumption) | (refine (mset_n (by first | assumption | exact Ne.symm (by assumption) | exact ne_fr (by assumption) (by assumption) | exact Ne.symm (ne_fr (by assumption) (by assumption)))).trans ?_; first | assumption | exact mset_s | exact Rep.raw (by assumption) (by assumption) | (refine (mset_n (by first | assumption | exact Ne.symm (by assumption) | exact ne_fr (by assumption) (by assumption) | exact Ne.symm (ne_fr (by assumption) (by assumption)))).trans ?_; first | assumption | exact mset_s | exact Rep.raw (by assumption) (by assumption) | (refine (mset_n (by first | assumption | exact Ne.symm (by assumption) | exact ne_fr (by assumption) (by assumption) | exact Ne.symm (ne_fr (by assumption) (by assumption)))).trans ?_; first | assumption | exact mset_s | exact Rep.raw (by assumption) (by assumption) | (refine (mset_n (by first | assumption | exact Ne.symm (by assumption) | exact ne_fr (by assumption) (by assumption) | exact Ne.symm (ne_fr (by assumption) (by assumption)))).trans ?_; first | assumption | exact mset_s | exact Rep.raw (by assumption) (by assumption) | (refine (mset_n (by first | assumption | exact Ne.symm (by assumption) | exact ne_fr (by assumption) (by assumption) | exact Ne.symm (ne_fr (by assumption) (by assumption)))).trans ?_; first | assumption | exact mset_s | exact Rep.raw (by assumption) (by assumption) | (refine (mset_n (by first | assumption | exact Ne.symm (by assumption) | exact ne_fr (by assumption) (by assumption) | exact Ne.symm (ne_fr (by assumption) (by assumption)))).trans ?_; first | assumption | exact mset_s | exact Rep.raw (by assumption) (by assumption) | (refine (mset_n (by first | assumption | exact Ne.symm (by assumption) | exact ne_fr (by assumption) (by assumption) | exact Ne.symm (ne_fr (by assumption) (by assumption)))).trans ?_; assumption)))))))⟩) (sp_rowInit (d := 1) aset_s (by omega) (by omega) (by omega) _ (hRc.new ha48 _)) (by first | (rintro _ _ _ _ ⟨h, -⟩; exact ⟨_, h⟩) | (rintro _ _ _ _ ⟨_, h, -⟩; exact ⟨_, h⟩) | (rintro _ _ _ _ ⟨_, _, h, -⟩; exact ⟨_, h⟩) | (rintro _ _ _ _ ⟨_, _, _, h, -⟩; exact ⟨_, h⟩) | (rintro _ _ _ _ ⟨_, _, _, _, h, -⟩; exact ⟨_, h⟩)) (by omega) (Nat.le_of_ble_eq_true rfl) (fun v1 μ1 k1 n1 hk1 hn1 hQ1 => ?_)
        obtain ⟨α1, hR1, z1, z2, z3, z4⟩ := hQ1
        cases z1
        rw [aset2] at z2
        subst z2
        have nra : ra ≠ a48 := z.symm
        have hra1 : aset αi a48 (oR [] 16) ra = some (oR R cR) := (aset_n nra).trans hrai
        obtain ⟨kr', vr', kk', vs', g1, -⟩ := hR1.row hra1
        first | refine b_astore dX3_parts_55 (by decide) ?_ | refine b_astoreN dX3_parts_55 (by decide) ?_
        first | refine b_aload_n dX3_parts_57 rfl ?_ | refine b_aload_nN dX3_parts_57 rfl ?_
        refine b_getf dX3_parts_58 f3_36 (by first | assumption | exact mset_s | exact Rep.raw (by assumption) (by assumption) | (refine (mset_n (by first | assumption | exact Ne.symm (by assumption) | exact ne_fr (by assumption) (by assumption) | exact Ne.symm (ne_fr (by assumption) (by assumption)))).trans ?_; first | assumption | exact mset_s | exact Rep.raw (by assumption) (by assumption) | (refine (mset_n (by first | assumption | exact Ne.symm (by assumption) | exact ne_fr (by assumption) (by assumption) | exact Ne.symm (ne_fr (by assumption) (by assumption)))).trans ?_; first | assumption | exact mset_s | exact Rep.raw (by assumption) (by assumption) | (refine (mset_n (by first | assumption | exact Ne.symm (by assumption) | exact ne_fr (by assumption) (by assumption) | exact Ne.symm (ne_fr (by assumption) (by assumption)))).trans ?_; first | assumption | exact mset_s | exact Rep.raw (by assumption) (by assumption) | (refine (mset_n (by first | assumption | exact Ne.symm (by assumption) | exact ne_fr (by assumption) (by assumption) | exact Ne.symm (ne_fr (by assumption) (by assumption)))).trans ?_; first | assumption | exact mset_s | exact Rep.raw (by assumption) (by assumption) | (refine (mset_n (by first | assumption | exact Ne.symm (by assumption) | exact ne_fr (by assumption) (by assumption) | exact Ne.symm (ne_fr (by assumption) (by assumption)))).trans ?_; first | assumption | exact mset_s | exact Rep.raw (by assumption) (by assumption) | (refine (mset_n (by first | assumption | exact Ne.symm (by assumption) | exact ne_fr (by assumption) (by assumption) | exact Ne.symm (ne_fr (by assumption) (by assumption)))).trans ?_; first | assumption | exact mset_s | exact Rep.raw (by assumption) (by assumption) | (refine (mset_n (by first | assumption | exact Ne.symm (by assumption) | exact ne_fr (by assumption) (by assumption) | exact Ne.symm (ne_fr (by assumption) (by assumption)))).trans ?_; assumption)))))))) rfl ?_
        refine b_iload dX3_parts_61 rfl ?_
        first | refine b_imulN dX3_parts_63 ?_ | refine b_imul dX3_parts_63 ?_
        refine b_iload dX3_parts_64 rfl ?_
        refine b_idivN dX3_parts_66 (by omega) (by omega) (by omega) ?_
        refine b_istore dX3_parts_67 (by decide) ?_
        first | refine b_aload_n dX3_parts_69 rfl ?_ | refine b_aload_nN dX3_parts_69 rfl ?_
        refine b_getf dX3_parts_70 f3_36 (by first | assumption | exact mset_s | exact Rep.raw (by assumption) (by assumption) | (refine (mset_n (by first | assumption | exact Ne.symm (by assumption) | exact ne_fr (by assumption) (by assumption) | exact Ne.symm (ne_fr (by assumption) (by assumption)))).trans ?_; first | assumption | exact mset_s | exact Rep.raw (by assumption) (by assumption) | (refine (mset_n (by first | assumption | exact Ne.symm (by assumption) | exact ne_fr (by assumption) (by assumption) | exact Ne.symm (ne_fr (by assumption) (by assumption)))).trans ?_; first | assumption | exact mset_s | exact Rep.raw (by assumption) (by assumption) | (refine (mset_n (by first | assumption | exact Ne.symm (by assumption) | exact ne_fr (by assumption) (by assumption) | exact Ne.symm (ne_fr (by assumption) (by assumption)))).trans ?_; first | assumption | exact mset_s | exact Rep.raw (by assumption) (by assumption) | (refine (mset_n (by first | assumption | exact Ne.symm (by assumption) | exact ne_fr (by assumption) (by assumption) | exact Ne.symm (ne_fr (by assumption) (by assumption)))).trans ?_; first | assumption | exact mset_s | exact Rep.raw (by assumption) (by assumption) | (refine (mset_n (by first | assumption | exact Ne.symm (by assumption) | exact ne_fr (by assumption) (by assumption) | exact Ne.symm (ne_fr (by assumption) (by assumption)))).trans ?_; first | assumption | exact mset_s | exact Rep.raw (by assumption) (by assumption) | (refine (mset_n (by first | assumption | exact Ne.symm (by assumption) | exact ne_fr (by assumption) (by assumption) | exact Ne.symm (ne_fr (by assumption) (by assumption)))).trans ?_; first | assumption | exact mset_s | exact Rep.raw (by assumption) (by assumption) | (refine (mset_n (by first | assumption | exact Ne.symm (by assumption) | exact ne_fr (by assumption) (by assumption) | exact Ne.symm (ne_fr (by assumption) (by assumption)))).trans ?_; assumption)))))))) rfl ?_
        refine b_iload dX3_parts_73 rfl ?_
        refine b_iconst (v := 1) dX3_parts_75 (by decide) ?_
        first | refine b_iaddK (c := 1) dX3_parts_76 (by decide) ?_ | refine b_iadd dX3_parts_76 ?_
        first | refine b_imulN dX3_parts_77 ?_ | refine b_imul dX3_parts_77 ?_
        refine b_iload dX3_parts_78 rfl ?_
        refine b_idivN dX3_parts_80 (by omega) (by omega) (by omega) ?_
        refine b_istore dX3_parts_81 (by decide) ?_
        refine b_iload dX3_parts_83 rfl ?_
        refine b_istore dX3_parts_85 (by decide) ?_
        -- the slice is copied
        have lp2 : ∀ (f2 j : Nat) (μ2 : Mem) (k2 n2 : Nat), R.length * (i + 1) / q - j < f2 → R.length * i / q ≤ j → j ≤ R.length * (i + 1) / q → Rep (aset αi a48 (oR ((R.take j).drop (R.length * i / q)) 16)) μ2 → k2 = kc - 3 → n2 = nc - 35 →
            bB g l M3_parts d Q 87 [(0, .ref ra), (1, .int now), (2, .int lo), (3, .ref ca), (4, .int (nI q)), (5, .int (nI i)), (6, .ref a48), (7, .int (nI (R.length * i / q))), (8, .int (nI (R.length * (i + 1) / q))), (9, .int (nI j))] [] μ2 k2 n2 := by
          intro f2
          induction f2 with
          | zero => intro j μ2 k2 n2 h; omega
          | succ f2 ihf2 =>
            intro j μ2 k2 n2 hf2 hj1 hj2 hR2 ek en
            have hra2 : aset αi a48 (oR ((R.take j).drop (R.length * i / q)) 16) ra = some (oR R cR) := (aset_n nra).trans hrai
            obtain ⟨kr2, vr2, kk2, vs2, q1, q2, q3, q4, q5, q6, q7, q8, q9⟩ := hR2.row hra2
            obtain ⟨kr3, vr3, kk3, vs3, p1, p2, p3, p4, p5, p6, p7, p8, p9⟩ := hR2.row (α := aset αi a48 (oR ((R.take j).drop (R.length * i / q)) 16)) aset_s
            have hl2 : ((R.take j).drop (R.length * i / q)).length = j - R.length * i / q := by simp; omega
            refine b_iload dX3_parts_87 rfl ?_
            refine b_iload dX3_parts_89 rfl ?_
            refine b_icmp_ge (tgt := 119) dX3_parts_91 (by decide) (fun h91 => ?_) (fun h91 => ?_)
            · rw [nI_leI (by omega) (by omega)] at h91
              have e : j = R.length * (i + 1) / q := by omega
              subst e
              have hsl : (R.take (R.length * (i + 1) / q)).drop (R.length * i / q) = slc R q i := rfl
              rw [hsl] at hR2 hra2 hl2 p1 p8 p9
              first | refine b_aload_n dX3_parts_119 rfl ?_ | refine b_aload_nN dX3_parts_119 rfl ?_
              refine b_new dX3_parts_120 n3_10 (by omega) (by omega) (fun a120 ha120 => ?_)
              refine b_dup dX3_parts_123 rfl ?_
              refine b_iload_n dX3_parts_124 rfl ?_
              first | refine b_aload dX3_parts_125 rfl ?_ | refine b_aloadN dX3_parts_125 rfl ?_
              have hn2 := hR2.non ha120
              have y1 := ne_fr ha120 p1
              refine b_call (As := [.ref a120, .int now, .ref a48]) (rest := [.ref a120, .ref ca]) s3_81 dX3_parts_127 rfl rfl (fun ci hci => by cases hci; exact ⟨_, _, _, rfl, by first | assumption | exact mset_s | exact Rep.raw (by assumption) (by assumption) | (refine (mset_n (by first | assumption | exact Ne.symm (by assumption) | exact ne_fr (by assumption) (by assumption) | exact Ne.symm (ne_fr (by assumption) (by assumption)))).trans ?_; first | assumption | exact mset_s | exact Rep.raw (by assumption) (by assumption) | (refine (mset_n (by first | assumption | exact Ne.symm (by assumption) | exact ne_fr (by assumption) (by assumption) | exact Ne.symm (ne_fr (by assumption) (by assumption)))).trans ?_; first | assumption | exact mset_s | exact Rep.raw (by assumption) (by assumption) | (refine (mset_n (by first | assumption | exact Ne.symm (by assumption) | exact ne_fr (by assumption) (by assumption) | exact Ne.symm (ne_fr (by assumption) (by assumption)))).trans ?_; first | assumption | exact mset_s | exact Rep.raw (by assumption) (by assumption) | (refine (mset_n (by first | assumption | exact Ne.symm (by assumption) | exact ne_fr (by assumption) (by assumption) | exact Ne.symm (ne_fr (by assumption) (by assumption)))).trans ?_; first | assumption | exact mset_s | exact Rep.raw (by assumption) (by assumption) | (refine (mset_n (by first | assumption | exact Ne.symm (by assumption) | exact ne_fr (by assumption) (by assumption) | exact Ne.symm (ne_fr (by assumption) (by assumption)))).trans ?_; first | assumption | exact mset_s | exact Rep.raw (by assumption) (by assumption) | (refine (mset_n (by first | assumption | exact Ne.symm (by assumption) | exact ne_fr (by assumption) (by assumption) | exact Ne.symm (ne_fr (by assumption) (by assumption)))).trans ?_; first | assumption | exact mset_s | exact Rep.raw (by assumption) (by assumption) | (refine (mset_n (by first | assumption | exact Ne.symm (by assumption) | exact ne_fr (by assumption) (by assumption) | exact Ne.symm (ne_fr (by assumption) (by assumption)))).trans ?_; assumption)))))))⟩) (sp_leafInit (d := 2) aset_s (by omega) _ (hR2.new ha120 _)) (by first | (rintro _ _ _ _ ⟨h, -⟩; exact ⟨_, h⟩) | (rintro _ _ _ _ ⟨_, h, -⟩; exact ⟨_, h⟩) | (rintro _ _ _ _ ⟨_, _, h, -⟩; exact ⟨_, h⟩) | (rintro _ _ _ _ ⟨_, _, _, h, -⟩; exact ⟨_, h⟩) | (rintro _ _ _ _ ⟨_, _, _, _, h, -⟩; exact ⟨_, h⟩)) (by omega) (Nat.le_of_ble_eq_true rfl) (fun v5 μ5 k5 n5 hk5 hn5 hQ5 => ?_)
              obtain ⟨α5, hR5, x1, x2, x3, x4⟩ := hQ5
              cases x1
              rw [aset2] at x2
              subst x2
              have nca48 : ca ≠ a48 := fun e => by rw [← e, hcai] at hn0; cases hn0
              have nca12 : ca ≠ a120 := fun e => by
                rw [← e, aset_n nca48, hcai] at hn2; cases hn2
              have hca5 : aset (aset αi a48 (oR (slc R q i) 16)) a120 (oW (cO 3 [.int now, .ref a48])) ca = some (oP (kA ks) ci) := (aset_n nca12).trans ((aset_n nca48).trans hcai)
              have hpg5 : ∀ p, isPg αi p → isPg (aset (aset αi a48 (oR (slc R q i) 16)) a120 (oW (cO 3 [.int now, .ref a48]))) p := by
                intro p hp
                have n1 : p ≠ a48 := fun e => by
                  rcases hp with ⟨fs, h⟩ | ⟨fs, h⟩ <;> (rw [e, hn0] at h; cases h)
                have n2' : p ≠ a120 := fun e => by
                  rcases hp with ⟨fs, h⟩ | ⟨fs, h⟩ <;> (rw [← e, aset_n n1, h] at hn2; cases hn2)
                rcases hp with ⟨fs, h⟩ | ⟨fs, h⟩
                · exact Or.inl ⟨fs, (aset_n n2').trans ((aset_n n1).trans h)⟩
                · exact Or.inr ⟨fs, (aset_n n2').trans ((aset_n n1).trans h)⟩
              have hall5 : allG (aset (aset αi a48 (oR (slc R q i) 16)) a120 (oW (cO 3 [.int now, .ref a48]))) (kA ks) := by
                intro z hz
                obtain ⟨c, hc, rfl⟩ := List.mem_map.mp hz
                exact hpg5 _ (hTh c hc).pg
              have hrow5 : aset (aset αi a48 (oR (slc R q i) 16)) a120 (oW (cO 3 [.int now, .ref a48])) a48 = some (oR (slc R q i) 16) := (aset_n y1.symm).trans aset_s
              obtain ⟨kr6, vr6, kk6, vs6, s1, s2, s3, s4, s5, s6, s7, s8, s9⟩ := hR5.row hrow5
              obtain ⟨xx, yy, xxs, zzs, mca, -⟩ := hR5.pgs hca5
              have hkl : (kA ks).length = i := by rw [kA_len]; exact hlen
              have hlow : lowOf R q lo i = if i = 0 then lo else (R.getD (R.length * i / q) (0, 0)).1 := rfl
              -- the end of the body
              have fin : bB g l M3_parts d Q 146 [(0, .ref ra), (1, .int now), (2, .int lo), (3, .ref ca), (4, .int (nI q)), (5, .int (nI i))] [.int (lowOf R q lo i), .ref a120, .ref ca] μ5 k5 n5 := by
                refine b_call (As := [.ref ca, .ref a120, .int (lowOf R q lo i)]) (rest := []) s3_72 dX3_parts_146 rfl rfl (fun ci hci => by cases hci; exact ⟨_, _, _, rfl, by first | assumption | exact mset_s | exact Rep.raw (by assumption) (by assumption) | (refine (mset_n (by first | assumption | exact Ne.symm (by assumption) | exact ne_fr (by assumption) (by assumption) | exact Ne.symm (ne_fr (by assumption) (by assumption)))).trans ?_; first | assumption | exact mset_s | exact Rep.raw (by assumption) (by assumption) | (refine (mset_n (by first | assumption | exact Ne.symm (by assumption) | exact ne_fr (by assumption) (by assumption) | exact Ne.symm (ne_fr (by assumption) (by assumption)))).trans ?_; first | assumption | exact mset_s | exact Rep.raw (by assumption) (by assumption) | (refine (mset_n (by first | assumption | exact Ne.symm (by assumption) | exact ne_fr (by assumption) (by assumption) | exact Ne.symm (ne_fr (by assumption) (by assumption)))).trans ?_; first | assumption | exact mset_s | exact Rep.raw (by assumption) (by assumption) | (refine (mset_n (by first | assumption | exact Ne.symm (by assumption) | exact ne_fr (by assumption) (by assumption) | exact Ne.symm (ne_fr (by assumption) (by assumption)))).trans ?_; first | assumption | exact mset_s | exact Rep.raw (by assumption) (by assumption) | (refine (mset_n (by first | assumption | exact Ne.symm (by assumption) | exact ne_fr (by assumption) (by assumption) | exact Ne.symm (ne_fr (by assumption) (by assumption)))).trans ?_; first | assumption | exact mset_s | exact Rep.raw (by assumption) (by assumption) | (refine (mset_n (by first | assumption | exact Ne.symm (by assumption) | exact ne_fr (by assumption) (by assumption) | exact Ne.symm (ne_fr (by assumption) (by assumption)))).trans ?_; first | assumption | exact mset_s | exact Rep.raw (by assumption) (by assumption) | (refine (mset_n (by first | assumption | exact Ne.symm (by assumption) | exact ne_fr (by assumption) (by assumption) | exact Ne.symm (ne_fr (by assumption) (by assumption)))).trans ?_; assumption)))))))⟩) (sp_padd' (d := 0) hca5 (Or.inl ⟨_, aset_s⟩) hall5 (N := 400) (by omega) hci4 (by omega) (by omega) (by omega) _ hR5) (by first | (rintro _ _ _ _ ⟨h, -⟩; exact ⟨_, h⟩) | (rintro _ _ _ _ ⟨_, h, -⟩; exact ⟨_, h⟩) | (rintro _ _ _ _ ⟨_, _, h, -⟩; exact ⟨_, h⟩) | (rintro _ _ _ _ ⟨_, _, _, h, -⟩; exact ⟨_, h⟩) | (rintro _ _ _ _ ⟨_, _, _, _, h, -⟩; exact ⟨_, h⟩)) (by omega) (Nat.le_of_ble_eq_true rfl) (fun v6 μ6 k6 n6 hk6 hn6 hQ6 => ?_)
                obtain ⟨α6, hR6, w1, c', w2, w3⟩ := hQ6
                cases w1
                subst w2
                refine b_pop dX3_parts_149 rfl ?_
                first | refine b_iincN dX3_parts_150 rfl (by decide) ?_ | refine b_iinc1 dX3_parts_150 rfl (by decide) ?_
                refine b_goto (tgt := 41) dX3_parts_153 (by decide) ?_
                unfold gP at w3
                have ha12 : aset (aset (aset αi a48 (oR (slc R q i) 16)) a120 (oW (cO 3 [.int now, .ref a48]))) ca (oP (kA ks ++ [(a120, lowOf R q lo i)]) c') a120 = some (oW (cO 3 [.int now, .ref a48])) := (aset_n nca12.symm).trans aset_s
                have ha48' : aset (aset (aset αi a48 (oR (slc R q i) 16)) a120 (oW (cO 3 [.int now, .ref a48]))) ca (oP (kA ks ++ [(a120, lowOf R q lo i)]) c') a48 = some (oR (slc R q i) 16) := (aset_n nca48.symm).trans hrow5
                have hold : ∀ x o, αi x = some o → x ≠ ca → aset (aset (aset αi a48 (oR (slc R q i) 16)) a120 (oW (cO 3 [.int now, .ref a48]))) ca (oP (kA ks ++ [(a120, lowOf R q lo i)]) c') x = some o := by
                  intro x o hx hxc
                  have n1 : x ≠ a48 := fun e => by rw [e, hn0] at hx; cases hx
                  have n2' : x ≠ a120 := fun e => by rw [← e, aset_n n1, hx] at hn2; cases hn2
                  exact (aset_n hxc).trans ((aset_n n2').trans ((aset_n n1).trans hx))
                have hnone : ∀ x, αi x = none → α x = none ∨ x = ca := by
                  intro x hx
                  cases hy : α x with
                  | none => exact Or.inl rfl
                  | some o =>
                    by_cases e : x = ca
                    · exact Or.inr e
                    · rw [hkeep x o hy e] at hx; cases hx
                have hn12 : αi a120 = none := by rw [aset_n y1] at hn2; exact hn2
                refine bB.locs rfl (ihf (i + 1) c' (ks ++ ([(lowOf R q lo i, hiOf R q hi i, mkL a120 a48 now (slc R q i) 16)] : List (Kid 0))) _ _ _ _ (by omega) (by omega) hR6 (by simp; omega) ?_ ?_ ?_ ?_ (fun x o hx hxc => hold x o (hkeep x o hx hxc) hxc) ?_ (by omega) (by omega) (by omega) (by omega))
                · intro j c hc
                  by_cases e : j < ks.length
                  · rw [List.getElem?_append_left e] at hc
                    exact hlf j c hc
                  · rw [List.getElem?_append_right (by omega)] at hc
                    have : j - ks.length = 0 := by
                      have := (List.getElem?_eq_some_iff.mp hc).1
                      simp at this
                      omega
                    rw [this] at hc
                    cases hc
                    have ej : j = i := by omega
                    subst ej
                    exact ⟨rfl, rfl, a120, a48, rfl⟩
                · intro c hc
                  rcases List.mem_append.mp hc with hc | hc
                  · refine Th.keptT 0 _ (hTh c hc) (fun x o hx ho => hold x o ho (fun e => ?_)) (fun x m hx => hold x _ hx (fun e => by rw [e, hcai] at hx; cases hx))
                    have := hfr c hc x hx
                    rw [e, hca] at this
                    cases this
                  · rw [List.mem_singleton.mp hc]
                    exact ⟨ha12, ha48'⟩
                · rw [List.flatMap_append, List.nodup_append]
                  refine ⟨hnd, ?_, ?_⟩
                  · show [a120, a48].Nodup
                    simp
                    exact y1
                  · intro x hx y hy e
                    subst e
                    obtain ⟨c, hc, hx⟩ := List.mem_flatMap.mp hx
                    obtain ⟨o, ho, -⟩ := Th.all_at 0 _ (hTh c hc) x hx
                    have hy' : x ∈ [a120, a48] := hy
                    rcases List.mem_cons.mp hy' with e | hy'
                    · rw [e, hn12] at ho; cases ho
                    · rw [List.mem_singleton.mp hy', hn0] at ho; cases ho
                · intro c hc x hx
                  rcases List.mem_append.mp hc with hc | hc
                  · exact hfr c hc x hx
                  · rw [List.mem_singleton.mp hc] at hx
                    have hx' : x ∈ [a120, a48] := hx
                    rcases List.mem_cons.mp hx' with e | hx'
                    · rw [e]
                      exact (hnone a120 hn12).resolve_right nca12.symm
                    · rw [List.mem_singleton.mp hx']
                      exact (hnone a48 hn0).resolve_right nca48.symm
                · rw [kA_snoc]
                  exact aset_s
              refine b_iload dX3_parts_130 rfl ?_
              refine b_if_ne (tgt := 139) dX3_parts_132 (by decide) (fun h132 => ?_) (fun h132 => ?_)
              · have hi0 : i ≠ 0 := fun e => h132 (by rw [e]; rfl)
                have hlow' : lowOf R q lo i = (R.getD (R.length * i / q) (0, 0)).1 := by rw [hlow, if_neg hi0]
                have hl3 := slc_len (R := R) (q := q) (j := i) (by omega) (by omega)
                obtain ⟨q0, hq0⟩ := at_of (l := slc R q i) (j := 0) (by omega)
                have hk0 := get_of_take s8 hq0
                have hix : ix kk6 0 = some q0.1 := by rw [show (0 : Int32) = nI 0 from rfl, ix_n (by omega)]; exact hk0
                rw [slc_at (by omega), Nat.add_zero] at hq0
                rw [hlow', getD_of hq0] at fin
                first | refine b_aload dX3_parts_139 rfl ?_ | refine b_aloadN dX3_parts_139 rfl ?_
                refine b_getf dX3_parts_141 f3_24 (by first | assumption | exact mset_s | exact Rep.raw (by assumption) (by assumption) | (refine (mset_n (by first | assumption | exact Ne.symm (by assumption) | exact ne_fr (by assumption) (by assumption) | exact Ne.symm (ne_fr (by assumption) (by assumption)))).trans ?_; first | assumption | exact mset_s | exact Rep.raw (by assumption) (by assumption) | (refine (mset_n (by first | assumption | exact Ne.symm (by assumption) | exact ne_fr (by assumption) (by assumption) | exact Ne.symm (ne_fr (by assumption) (by assumption)))).trans ?_; first | assumption | exact mset_s | exact Rep.raw (by assumption) (by assumption) | (refine (mset_n (by first | assumption | exact Ne.symm (by assumption) | exact ne_fr (by assumption) (by assumption) | exact Ne.symm (ne_fr (by assumption) (by assumption)))).trans ?_; first | assumption | exact mset_s | exact Rep.raw (by assumption) (by assumption) | (refine (mset_n (by first | assumption | exact Ne.symm (by assumption) | exact ne_fr (by assumption) (by assumption) | exact Ne.symm (ne_fr (by assumption) (by assumption)))).trans ?_; first | assumption | exact mset_s | exact Rep.raw (by assumption) (by assumption) | (refine (mset_n (by first | assumption | exact Ne.symm (by assumption) | exact ne_fr (by assumption) (by assumption) | exact Ne.symm (ne_fr (by assumption) (by assumption)))).trans ?_; first | assumption | exact mset_s | exact Rep.raw (by assumption) (by assumption) | (refine (mset_n (by first | assumption | exact Ne.symm (by assumption) | exact ne_fr (by assumption) (by assumption) | exact Ne.symm (ne_fr (by assumption) (by assumption)))).trans ?_; first | assumption | exact mset_s | exact Rep.raw (by assumption) (by assumption) | (refine (mset_n (by first | assumption | exact Ne.symm (by assumption) | exact ne_fr (by assumption) (by assumption) | exact Ne.symm (ne_fr (by assumption) (by assumption)))).trans ?_; assumption)))))))) rfl ?_
                refine b_iconst (v := 0) dX3_parts_144 (by decide) ?_
                refine b_iald dX3_parts_145 (by first | assumption | exact mset_s | exact Rep.raw (by assumption) (by assumption) | (refine (mset_n (by first | assumption | exact Ne.symm (by assumption) | exact ne_fr (by assumption) (by assumption) | exact Ne.symm (ne_fr (by assumption) (by assumption)))).trans ?_; first | assumption | exact mset_s | exact Rep.raw (by assumption) (by assumption) | (refine (mset_n (by first | assumption | exact Ne.symm (by assumption) | exact ne_fr (by assumption) (by assumption) | exact Ne.symm (ne_fr (by assumption) (by assumption)))).trans ?_; first | assumption | exact mset_s | exact Rep.raw (by assumption) (by assumption) | (refine (mset_n (by first | assumption | exact Ne.symm (by assumption) | exact ne_fr (by assumption) (by assumption) | exact Ne.symm (ne_fr (by assumption) (by assumption)))).trans ?_; first | assumption | exact mset_s | exact Rep.raw (by assumption) (by assumption) | (refine (mset_n (by first | assumption | exact Ne.symm (by assumption) | exact ne_fr (by assumption) (by assumption) | exact Ne.symm (ne_fr (by assumption) (by assumption)))).trans ?_; first | assumption | exact mset_s | exact Rep.raw (by assumption) (by assumption) | (refine (mset_n (by first | assumption | exact Ne.symm (by assumption) | exact ne_fr (by assumption) (by assumption) | exact Ne.symm (ne_fr (by assumption) (by assumption)))).trans ?_; first | assumption | exact mset_s | exact Rep.raw (by assumption) (by assumption) | (refine (mset_n (by first | assumption | exact Ne.symm (by assumption) | exact ne_fr (by assumption) (by assumption) | exact Ne.symm (ne_fr (by assumption) (by assumption)))).trans ?_; first | assumption | exact mset_s | exact Rep.raw (by assumption) (by assumption) | (refine (mset_n (by first | assumption | exact Ne.symm (by assumption) | exact ne_fr (by assumption) (by assumption) | exact Ne.symm (ne_fr (by assumption) (by assumption)))).trans ?_; assumption)))))))) (by first | assumption | exact ix_D (by first | assumption | omega) (by first | assumption | omega)) ?_
                exact bB.locs rfl fin
              · have hi0 : i = 0 := by
                  have := (nI_eq (a := i) (b := 0) (by omega) (by omega)).mp h132
                  exact this
                rw [hlow, if_pos hi0] at fin
                refine b_iload_n dX3_parts_135 rfl ?_
                refine b_goto (tgt := 146) dX3_parts_136 (by decide) ?_
                exact bB.locs rfl fin
            · rw [nI_leI (by omega) (by omega)] at h91
              obtain ⟨p, hp⟩ := at_of (l := R) (j := j) (by omega)
              have hk := get_of_take q8 hp
              have hv := get_of_take q9 hp
              have hix : ix kk2 (nI j) = some p.1 := by rw [ix_n (by omega)]; exact hk
              have hiy : ix vs2 (nI j) = some p.2 := by rw [ix_n (by omega)]; exact hv
              have hgr : ∀ x, grK ((R.take j).drop (R.length * i / q)).length 16 x = 0 := fun x => by unfold grK; rw [if_neg (by omega)]
              first | refine b_aload dX3_parts_94 rfl ?_ | refine b_aloadN dX3_parts_94 rfl ?_
              first | refine b_aload_n dX3_parts_96 rfl ?_ | refine b_aload_nN dX3_parts_96 rfl ?_
              refine b_getf dX3_parts_97 f3_24 (by first | assumption | exact mset_s | exact Rep.raw (by assumption) (by assumption) | (refine (mset_n (by first | assumption | exact Ne.symm (by assumption) | exact ne_fr (by assumption) (by assumption) | exact Ne.symm (ne_fr (by assumption) (by assumption)))).trans ?_; first | assumption | exact mset_s | exact Rep.raw (by assumption) (by assumption) | (refine (mset_n (by first | assumption | exact Ne.symm (by assumption) | exact ne_fr (by assumption) (by assumption) | exact Ne.symm (ne_fr (by assumption) (by assumption)))).trans ?_; first | assumption | exact mset_s | exact Rep.raw (by assumption) (by assumption) | (refine (mset_n (by first | assumption | exact Ne.symm (by assumption) | exact ne_fr (by assumption) (by assumption) | exact Ne.symm (ne_fr (by assumption) (by assumption)))).trans ?_; first | assumption | exact mset_s | exact Rep.raw (by assumption) (by assumption) | (refine (mset_n (by first | assumption | exact Ne.symm (by assumption) | exact ne_fr (by assumption) (by assumption) | exact Ne.symm (ne_fr (by assumption) (by assumption)))).trans ?_; first | assumption | exact mset_s | exact Rep.raw (by assumption) (by assumption) | (refine (mset_n (by first | assumption | exact Ne.symm (by assumption) | exact ne_fr (by assumption) (by assumption) | exact Ne.symm (ne_fr (by assumption) (by assumption)))).trans ?_; first | assumption | exact mset_s | exact Rep.raw (by assumption) (by assumption) | (refine (mset_n (by first | assumption | exact Ne.symm (by assumption) | exact ne_fr (by assumption) (by assumption) | exact Ne.symm (ne_fr (by assumption) (by assumption)))).trans ?_; first | assumption | exact mset_s | exact Rep.raw (by assumption) (by assumption) | (refine (mset_n (by first | assumption | exact Ne.symm (by assumption) | exact ne_fr (by assumption) (by assumption) | exact Ne.symm (ne_fr (by assumption) (by assumption)))).trans ?_; assumption)))))))) rfl ?_
              refine b_iload dX3_parts_100 rfl ?_
              refine b_iald dX3_parts_102 (by first | assumption | exact mset_s | exact Rep.raw (by assumption) (by assumption) | (refine (mset_n (by first | assumption | exact Ne.symm (by assumption) | exact ne_fr (by assumption) (by assumption) | exact Ne.symm (ne_fr (by assumption) (by assumption)))).trans ?_; first | assumption | exact mset_s | exact Rep.raw (by assumption) (by assumption) | (refine (mset_n (by first | assumption | exact Ne.symm (by assumption) | exact ne_fr (by assumption) (by assumption) | exact Ne.symm (ne_fr (by assumption) (by assumption)))).trans ?_; first | assumption | exact mset_s | exact Rep.raw (by assumption) (by assumption) | (refine (mset_n (by first | assumption | exact Ne.symm (by assumption) | exact ne_fr (by assumption) (by assumption) | exact Ne.symm (ne_fr (by assumption) (by assumption)))).trans ?_; first | assumption | exact mset_s | exact Rep.raw (by assumption) (by assumption) | (refine (mset_n (by first | assumption | exact Ne.symm (by assumption) | exact ne_fr (by assumption) (by assumption) | exact Ne.symm (ne_fr (by assumption) (by assumption)))).trans ?_; first | assumption | exact mset_s | exact Rep.raw (by assumption) (by assumption) | (refine (mset_n (by first | assumption | exact Ne.symm (by assumption) | exact ne_fr (by assumption) (by assumption) | exact Ne.symm (ne_fr (by assumption) (by assumption)))).trans ?_; first | assumption | exact mset_s | exact Rep.raw (by assumption) (by assumption) | (refine (mset_n (by first | assumption | exact Ne.symm (by assumption) | exact ne_fr (by assumption) (by assumption) | exact Ne.symm (ne_fr (by assumption) (by assumption)))).trans ?_; first | assumption | exact mset_s | exact Rep.raw (by assumption) (by assumption) | (refine (mset_n (by first | assumption | exact Ne.symm (by assumption) | exact ne_fr (by assumption) (by assumption) | exact Ne.symm (ne_fr (by assumption) (by assumption)))).trans ?_; assumption)))))))) (by first | assumption | exact ix_D (by first | assumption | omega) (by first | assumption | omega)) ?_
              first | refine b_aload_n dX3_parts_103 rfl ?_ | refine b_aload_nN dX3_parts_103 rfl ?_
              refine b_getf dX3_parts_104 f3_28 (by first | assumption | exact mset_s | exact Rep.raw (by assumption) (by assumption) | (refine (mset_n (by first | assumption | exact Ne.symm (by assumption) | exact ne_fr (by assumption) (by assumption) | exact Ne.symm (ne_fr (by assumption) (by assumption)))).trans ?_; first | assumption | exact mset_s | exact Rep.raw (by assumption) (by assumption) | (refine (mset_n (by first | assumption | exact Ne.symm (by assumption) | exact ne_fr (by assumption) (by assumption) | exact Ne.symm (ne_fr (by assumption) (by assumption)))).trans ?_; first | assumption | exact mset_s | exact Rep.raw (by assumption) (by assumption) | (refine (mset_n (by first | assumption | exact Ne.symm (by assumption) | exact ne_fr (by assumption) (by assumption) | exact Ne.symm (ne_fr (by assumption) (by assumption)))).trans ?_; first | assumption | exact mset_s | exact Rep.raw (by assumption) (by assumption) | (refine (mset_n (by first | assumption | exact Ne.symm (by assumption) | exact ne_fr (by assumption) (by assumption) | exact Ne.symm (ne_fr (by assumption) (by assumption)))).trans ?_; first | assumption | exact mset_s | exact Rep.raw (by assumption) (by assumption) | (refine (mset_n (by first | assumption | exact Ne.symm (by assumption) | exact ne_fr (by assumption) (by assumption) | exact Ne.symm (ne_fr (by assumption) (by assumption)))).trans ?_; first | assumption | exact mset_s | exact Rep.raw (by assumption) (by assumption) | (refine (mset_n (by first | assumption | exact Ne.symm (by assumption) | exact ne_fr (by assumption) (by assumption) | exact Ne.symm (ne_fr (by assumption) (by assumption)))).trans ?_; first | assumption | exact mset_s | exact Rep.raw (by assumption) (by assumption) | (refine (mset_n (by first | assumption | exact Ne.symm (by assumption) | exact ne_fr (by assumption) (by assumption) | exact Ne.symm (ne_fr (by assumption) (by assumption)))).trans ?_; assumption)))))))) rfl ?_
              refine b_iload dX3_parts_107 rfl ?_
              refine b_lald dX3_parts_109 (by first | assumption | exact mset_s | exact Rep.raw (by assumption) (by assumption) | (refine (mset_n (by first | assumption | exact Ne.symm (by assumption) | exact ne_fr (by assumption) (by assumption) | exact Ne.symm (ne_fr (by assumption) (by assumption)))).trans ?_; first | assumption | exact mset_s | exact Rep.raw (by assumption) (by assumption) | (refine (mset_n (by first | assumption | exact Ne.symm (by assumption) | exact ne_fr (by assumption) (by assumption) | exact Ne.symm (ne_fr (by assumption) (by assumption)))).trans ?_; first | assumption | exact mset_s | exact Rep.raw (by assumption) (by assumption) | (refine (mset_n (by first | assumption | exact Ne.symm (by assumption) | exact ne_fr (by assumption) (by assumption) | exact Ne.symm (ne_fr (by assumption) (by assumption)))).trans ?_; first | assumption | exact mset_s | exact Rep.raw (by assumption) (by assumption) | (refine (mset_n (by first | assumption | exact Ne.symm (by assumption) | exact ne_fr (by assumption) (by assumption) | exact Ne.symm (ne_fr (by assumption) (by assumption)))).trans ?_; first | assumption | exact mset_s | exact Rep.raw (by assumption) (by assumption) | (refine (mset_n (by first | assumption | exact Ne.symm (by assumption) | exact ne_fr (by assumption) (by assumption) | exact Ne.symm (ne_fr (by assumption) (by assumption)))).trans ?_; first | assumption | exact mset_s | exact Rep.raw (by assumption) (by assumption) | (refine (mset_n (by first | assumption | exact Ne.symm (by assumption) | exact ne_fr (by assumption) (by assumption) | exact Ne.symm (ne_fr (by assumption) (by assumption)))).trans ?_; first | assumption | exact mset_s | exact Rep.raw (by assumption) (by assumption) | (refine (mset_n (by first | assumption | exact Ne.symm (by assumption) | exact ne_fr (by assumption) (by assumption) | exact Ne.symm (ne_fr (by assumption) (by assumption)))).trans ?_; assumption)))))))) (by first | assumption | exact ix_D (by first | assumption | omega) (by first | assumption | omega)) ?_
              refine b_call (As := [.ref a48, .int p.1, .long p.2]) (rest := []) s3_32 dX3_parts_110 rfl rfl (fun ci hci => by cases hci; exact ⟨_, _, _, rfl, by first | assumption | exact mset_s | exact Rep.raw (by assumption) (by assumption) | (refine (mset_n (by first | assumption | exact Ne.symm (by assumption) | exact ne_fr (by assumption) (by assumption) | exact Ne.symm (ne_fr (by assumption) (by assumption)))).trans ?_; first | assumption | exact mset_s | exact Rep.raw (by assumption) (by assumption) | (refine (mset_n (by first | assumption | exact Ne.symm (by assumption) | exact ne_fr (by assumption) (by assumption) | exact Ne.symm (ne_fr (by assumption) (by assumption)))).trans ?_; first | assumption | exact mset_s | exact Rep.raw (by assumption) (by assumption) | (refine (mset_n (by first | assumption | exact Ne.symm (by assumption) | exact ne_fr (by assumption) (by assumption) | exact Ne.symm (ne_fr (by assumption) (by assumption)))).trans ?_; first | assumption | exact mset_s | exact Rep.raw (by assumption) (by assumption) | (refine (mset_n (by first | assumption | exact Ne.symm (by assumption) | exact ne_fr (by assumption) (by assumption) | exact Ne.symm (ne_fr (by assumption) (by assumption)))).trans ?_; first | assumption | exact mset_s | exact Rep.raw (by assumption) (by assumption) | (refine (mset_n (by first | assumption | exact Ne.symm (by assumption) | exact ne_fr (by assumption) (by assumption) | exact Ne.symm (ne_fr (by assumption) (by assumption)))).trans ?_; first | assumption | exact mset_s | exact Rep.raw (by assumption) (by assumption) | (refine (mset_n (by first | assumption | exact Ne.symm (by assumption) | exact ne_fr (by assumption) (by assumption) | exact Ne.symm (ne_fr (by assumption) (by assumption)))).trans ?_; first | assumption | exact mset_s | exact Rep.raw (by assumption) (by assumption) | (refine (mset_n (by first | assumption | exact Ne.symm (by assumption) | exact ne_fr (by assumption) (by assumption) | exact Ne.symm (ne_fr (by assumption) (by assumption)))).trans ?_; assumption)))))))⟩) (sp_add (d := 1) aset_s (by omega) (by decide) (by rw [hgr]; omega) (by rw [hgr]; omega) (by omega) _ hR2) (by first | (rintro _ _ _ _ ⟨h, -⟩; exact ⟨_, h⟩) | (rintro _ _ _ _ ⟨_, h, -⟩; exact ⟨_, h⟩) | (rintro _ _ _ _ ⟨_, _, h, -⟩; exact ⟨_, h⟩) | (rintro _ _ _ _ ⟨_, _, _, h, -⟩; exact ⟨_, h⟩) | (rintro _ _ _ _ ⟨_, _, _, _, h, -⟩; exact ⟨_, h⟩)) (by omega) (Nat.le_of_ble_eq_true rfl) (fun v5 μ5 k5 n5 hk5 hn5 hQ5 => ?_)
              obtain ⟨α5, hR5, x1, x2, x3, x4⟩ := hQ5
              cases x1
              rw [hgr] at x3 x4
              have hgc : grC ((R.take j).drop (R.length * i / q)).length 16 = 16 := by unfold grC; rw [if_neg (by omega)]
              have e3 : (R.take j).drop (R.length * i / q) ++ [(p.1, p.2)] = (R.take (j + 1)).drop (R.length * i / q) := by
                rw [take_snoc hp, List.drop_append_of_le_length (by simp; omega)]
              rw [aset2, hgc, e3] at x2
              subst x2
              first | refine b_iincN dX3_parts_113 rfl (by decide) ?_ | refine b_iinc1 dX3_parts_113 rfl (by decide) ?_
              refine b_goto (tgt := 87) dX3_parts_116 (by decide) ?_
              exact bB.locs rfl (ihf2 (j + 1) _ _ _ (by omega) (by omega) (by omega) hR5 (by omega) (by omega))
        refine bB.locs rfl (lp2 (R.length * (i + 1) / q - R.length * i / q + 1) (R.length * i / q) _ _ _ (by omega) (Nat.le_refl _) sl_le ?_ (by omega) (by omega))
        rw [List.drop_eq_nil_of_le (by simp; omega)]
        exact hR1
  obtain ⟨kr, vr, kk, vs, h1, h2, h3, h4, h5, h6, h7, h8, h9⟩ := hR.row hra
  show Ms g l d k n M3_parts _ μ Q
  refine Ms.of rfl rfl (Nat.le_of_ble_eq_true rfl) ?_
  first | refine b_aload_n dX3_parts_0 rfl ?_ | refine b_aload_nN dX3_parts_0 rfl ?_
  refine b_getf dX3_parts_1 f3_36 (by first | assumption | exact mset_s | exact Rep.raw (by assumption) (by assumption) | (refine (mset_n (by first | assumption | exact Ne.symm (by assumption) | exact ne_fr (by assumption) (by assumption) | exact Ne.symm (ne_fr (by assumption) (by assumption)))).trans ?_; first | assumption | exact mset_s | exact Rep.raw (by assumption) (by assumption) | (refine (mset_n (by first | assumption | exact Ne.symm (by assumption) | exact ne_fr (by assumption) (by assumption) | exact Ne.symm (ne_fr (by assumption) (by assumption)))).trans ?_; first | assumption | exact mset_s | exact Rep.raw (by assumption) (by assumption) | (refine (mset_n (by first | assumption | exact Ne.symm (by assumption) | exact ne_fr (by assumption) (by assumption) | exact Ne.symm (ne_fr (by assumption) (by assumption)))).trans ?_; first | assumption | exact mset_s | exact Rep.raw (by assumption) (by assumption) | (refine (mset_n (by first | assumption | exact Ne.symm (by assumption) | exact ne_fr (by assumption) (by assumption) | exact Ne.symm (ne_fr (by assumption) (by assumption)))).trans ?_; first | assumption | exact mset_s | exact Rep.raw (by assumption) (by assumption) | (refine (mset_n (by first | assumption | exact Ne.symm (by assumption) | exact ne_fr (by assumption) (by assumption) | exact Ne.symm (ne_fr (by assumption) (by assumption)))).trans ?_; first | assumption | exact mset_s | exact Rep.raw (by assumption) (by assumption) | (refine (mset_n (by first | assumption | exact Ne.symm (by assumption) | exact ne_fr (by assumption) (by assumption) | exact Ne.symm (ne_fr (by assumption) (by assumption)))).trans ?_; first | assumption | exact mset_s | exact Rep.raw (by assumption) (by assumption) | (refine (mset_n (by first | assumption | exact Ne.symm (by assumption) | exact ne_fr (by assumption) (by assumption) | exact Ne.symm (ne_fr (by assumption) (by assumption)))).trans ?_; assumption)))))))) rfl ?_
  refine b_bipush (v := 16) dX3_parts_4 (by decide) ?_
  refine b_icmp_gt (tgt := 24) dX3_parts_6 (by decide) (fun h6 => ?_) (fun h6 => ?_)
  · first | refine b_aload_n dX3_parts_24 rfl ?_ | refine b_aload_nN dX3_parts_24 rfl ?_
    refine b_getf dX3_parts_25 f3_36 (by first | assumption | exact mset_s | exact Rep.raw (by assumption) (by assumption) | (refine (mset_n (by first | assumption | exact Ne.symm (by assumption) | exact ne_fr (by assumption) (by assumption) | exact Ne.symm (ne_fr (by assumption) (by assumption)))).trans ?_; first | assumption | exact mset_s | exact Rep.raw (by assumption) (by assumption) | (refine (mset_n (by first | assumption | exact Ne.symm (by assumption) | exact ne_fr (by assumption) (by assumption) | exact Ne.symm (ne_fr (by assumption) (by assumption)))).trans ?_; first | assumption | exact mset_s | exact Rep.raw (by assumption) (by assumption) | (refine (mset_n (by first | assumption | exact Ne.symm (by assumption) | exact ne_fr (by assumption) (by assumption) | exact Ne.symm (ne_fr (by assumption) (by assumption)))).trans ?_; first | assumption | exact mset_s | exact Rep.raw (by assumption) (by assumption) | (refine (mset_n (by first | assumption | exact Ne.symm (by assumption) | exact ne_fr (by assumption) (by assumption) | exact Ne.symm (ne_fr (by assumption) (by assumption)))).trans ?_; first | assumption | exact mset_s | exact Rep.raw (by assumption) (by assumption) | (refine (mset_n (by first | assumption | exact Ne.symm (by assumption) | exact ne_fr (by assumption) (by assumption) | exact Ne.symm (ne_fr (by assumption) (by assumption)))).trans ?_; first | assumption | exact mset_s | exact Rep.raw (by assumption) (by assumption) | (refine (mset_n (by first | assumption | exact Ne.symm (by assumption) | exact ne_fr (by assumption) (by assumption) | exact Ne.symm (ne_fr (by assumption) (by assumption)))).trans ?_; first | assumption | exact mset_s | exact Rep.raw (by assumption) (by assumption) | (refine (mset_n (by first | assumption | exact Ne.symm (by assumption) | exact ne_fr (by assumption) (by assumption) | exact Ne.symm (ne_fr (by assumption) (by assumption)))).trans ?_; assumption)))))))) rfl ?_
    refine b_bipush (v := 16) dX3_parts_28 (by decide) ?_
    first | refine b_iaddK (c := 16) dX3_parts_30 (by decide) ?_ | refine b_iadd dX3_parts_30 ?_
    refine b_iconst (v := 1) dX3_parts_31 (by decide) ?_
    first | refine b_isubK (c := 1) dX3_parts_32 (by decide) (by omega) ?_ | refine b_isub dX3_parts_32 ?_
    refine b_bipush (v := nI 16) dX3_parts_33 (by decide) ?_
    refine b_idivN dX3_parts_35 (by omega) (by omega) (by omega) ?_
    have e : (R.length + 16 - 1) / 16 = q := by rw [hq]; congr 1
    refine bB.top (v' := .int (nI q)) (by rw [e]) ?_
    refine b_istore dX3_parts_36 (by decide) ?_
    refine b_iconst (v := 0) dX3_parts_38 (by decide) ?_
    refine b_istore dX3_parts_39 (by decide) ?_
    refine bB.locs rfl (lp (q + 1) 0 cc [] α μ k n (by omega) (by omega) hR rfl (fun j c h => by cases h) (fun c h => by cases h) List.nodup_nil (fun c h => by cases h) (fun x o hx _ => hx) hca hc4 hc8 (by omega) hkn)
  · rw [show (16 : Int32) = nI 16 from rfl, nI_ltI (by omega) (by omega)] at h6
    omega
end LP2
