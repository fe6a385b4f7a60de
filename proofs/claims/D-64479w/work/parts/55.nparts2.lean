/-! Inner.parts: many children -/
set_option maxRecDepth 100000
section NP2
variable {g : Cx} {l : Launch} {d : Nat} {k n : Nat} {α : AM}
def ad3N {X : Type} : Nd X → List Nat
  | ((p, cp, cl), _, _, _, _, _) => [p, cp, cl]
def ad3 {h : Nat} (c : Kid (h + 1)) : List Nat := ad3N (X := PT h) c.2.2
def NC {h : Nat} (ks : List (Kid h)) (q : Nat) (ms : List Msg) (i : Nat) : Nat := ksum (fun j => cutN (loS ks q j) (hiS ks q j) ms) (List.range i)
theorem NC_succ {h : Nat} {ks : List (Kid h)} {q i : Nat} {ms : List Msg} : NC ks q ms (i + 1) = NC ks q ms i + cutN (loS ks q i) (hiS ks q i) ms := by
  unfold NC
  rw [List.range_succ, ksum_app, ksum_cons, ksum_nil]
  omega
theorem NC_mono {h : Nat} {ks : List (Kid h)} {q : Nat} {ms : List Msg} : ∀ {i j : Nat}, i ≤ j → NC ks q ms i ≤ NC ks q ms j := by
  intro i j hij
  induction j with
  | zero => rw [Nat.le_zero.mp hij]; exact Nat.le_refl _
  | succ j ih =>
    by_cases e : i = j + 1
    · rw [e]; exact Nat.le_refl _
    · rw [NC_succ]
      exact Nat.le_trans (ih (by omega)) (Nat.le_add_right _ _)
set_option maxHeartbeats 4000000 in
theorem sp_nparts2 {h p cp cl c1 c2 ca cc q : Nat} {now lo hi : Int32} {ks : List (Kid h)} {ls : List (Nat × Msg)} (hT : Th α (h + 1) (mkN p cp cl now ks ls c1 c2)) (hca : α ca = some (oP [] cc)) (hch : chn lo.toInt hi.toInt ks) (h9 : 8 < ks.length) (hM : ks.length ≤ 320) (hL : ls.length ≤ 24) (hq : q = (ks.length + 7) / 8) (hc4 : 4 ≤ cc) (hc8 : cc ≤ 800) (hcan : ∀ x ∈ allT (h + 1) (mkN p cp cl now ks ls c1 c2), x ≠ ca) (hn : 152 * q + 4 * NC ks q (ls.map (·.2)) q + (3200 - 4 * cc) ≤ n) (hkn : n ≤ 4 * k) (hd : 4 ≤ d) :
    aMs g l d k n M11_parts [.ref p, .int now, .int lo, .int hi, .ref ca] α (fun o α' k' n' => ∃ (ns : List (Kid (h + 1))) (c' : Nat), o = .returned (some (.ref ca)) ∧ ns.length = q ∧ nds ks ls q now ns ∧ (∀ c ∈ ns, Th α' (h + 1) c.2.2) ∧ (ns.flatMap ad3).Nodup ∧ (∀ c ∈ ns, ∀ x ∈ ad3 c, α x = none) ∧ (∀ x o, α x = some o → x ≠ ca → α' x = some o) ∧ α' ca = some (oP (kA ns) c') ∧ 4 ≤ c' ∧ c' ≤ 800 ∧ n + (3200 - 4 * c') ≤ n' + (3200 - 4 * cc) + ksum ndc ns + 4 * NC ks q (ls.map (·.2)) q ∧ n' ≤ 4 * k') := by
  intro μ hR
  have hq2 : 2 ≤ q ∧ q ≤ 41 := by omega
  have hq4 : 4 * q ≤ ks.length := by omega
  have hq8 : ks.length ≤ 8 * q := by omega
  generalize hQ : (fun (o : Outcome) (μ' : Mem) (k' n' : Nat) => ∃ α', Rep α' μ' ∧ ∃ (ns : List (Kid (h + 1))) (c' : Nat), o = .returned (some (.ref ca)) ∧ ns.length = q ∧ nds ks ls q now ns ∧ (∀ c ∈ ns, Th α' (h + 1) c.2.2) ∧ (ns.flatMap ad3).Nodup ∧ (∀ c ∈ ns, ∀ x ∈ ad3 c, α x = none) ∧ (∀ x o, α x = some o → x ≠ ca → α' x = some o) ∧ α' ca = some (oP (kA ns) c') ∧ 4 ≤ c' ∧ c' ≤ 800 ∧ n + (3200 - 4 * c') ≤ n' + (3200 - 4 * cc) + ksum ndc ns + 4 * NC ks q (ls.map (·.2)) q ∧ n' ≤ 4 * k') = Q
  have hQ0 := hQ
  have hd0 : d - 1 + 1 ≤ d := by omega
  have lp : ∀ (f i ci : Nat) (ns : List (Kid (h + 1))) (αi : AM) (μc : Mem) (kc nc : Nat), q - i < f → i ≤ q → Rep αi μc → ns.length = i → nds ks ls q now ns → (∀ c ∈ ns, Th αi (h + 1) c.2.2) → (ns.flatMap ad3).Nodup → (∀ c ∈ ns, ∀ x ∈ ad3 c, α x = none) → (∀ x o, α x = some o → x ≠ ca → αi x = some o) → αi ca = some (oP (kA ns) ci) → 4 ≤ ci → ci ≤ 800 → n + (3200 - 4 * ci) ≤ nc + (3200 - 4 * cc) + ksum ndc ns + 4 * NC ks q (ls.map (·.2)) i → ksum ndc ns ≤ 152 * i → nc ≤ 4 * kc →
      bB g l M11_parts d Q 40 [(0, .ref p), (1, .int now), (2, .int lo), (3, .int hi), (4, .ref ca), (5, .int (nI q)), (6, .int (nI i))] [] μc kc nc := by
    intro f
    induction f with
    | zero => intro i ci ns αi μc kc nc h; omega
    | succ f ihf =>
      intro i ci ns αi μc kc nc hf hi' hRc hlen hnds hTh hnd hfr hkeep hcai hci4 hci8 hbud h152 hknc
      have hTi : Th αi (h + 1) (mkN p cp cl now ks ls c1 c2) := Th.keptT _ _ hT (fun x o hx ho => hkeep x o ho (hcan x hx)) (fun x m hx => hkeep x _ hx (fun e => by rw [e, hca] at hx; cases hx))
      obtain ⟨m1, ⟨x, y, xs, zs, hpg⟩, -, -, -⟩ := hTi.nodeC hRc
      have hpg0 := hpg
      obtain ⟨m2, m3, m4, e1, e2, hle, hcap, ht, hu⟩ := hpg
      rw [kA_len] at m2 hle ht hu
      have hcap' : c1 ≤ 1000000 := hcap
      refine b_iload dX11_parts_40 rfl ?_
      refine b_iload dX11_parts_42 rfl ?_
      refine b_icmp_ge (tgt := 267) dX11_parts_44 (by decide) (fun h44 => ?_) (fun h44 => ?_)
      · rw [nI_leI (by omega) (by omega)] at h44
        have e : i = q := by omega
        subst e
        first | refine b_aload dX11_parts_267 rfl ?_ | refine b_aloadN dX11_parts_267 rfl ?_
        refine b_aret dX11_parts_269 rfl (Or.inr ⟨_, rfl⟩) ?_
        subst hQ0
        exact ⟨αi, hRc, ns, ci, rfl, hlen, hnds, hTh, hnd, hfr, hkeep, hcai, hci4, hci8, hbud, hknc⟩
      · rw [nI_leI (by omega) (by omega)] at h44
        have b1 := sl_lo (m := ks.length) (q := q) (j := i) (c := 4) (by omega) (by omega)
        have b2 := sl_hi (m := ks.length) (q := q) (j := i) (c := 8) (by omega) (by omega)
        have b3 := sl_top (m := ks.length) (q := q) (j := i + 1) (by omega) (by omega)
        have b4 : ks.length * i ≤ 320 * 41 := Nat.mul_le_mul hM (by omega)
        have b5 : ks.length * (i + 1) ≤ 320 * 41 := Nat.mul_le_mul hM (by omega)
        have hNCs := NC_succ (ks := ks) (q := q) (i := i) (ms := ls.map (·.2))
        have hNCm := NC_mono (ks := ks) (q := q) (ms := ls.map (·.2)) (i := i + 1) (j := q) (by omega)
        have hncb : 152 + 4 * cutN (loS ks q i) (hiS ks q i) (ls.map (·.2)) + (3200 - 4 * ci) ≤ nc := by omega
        have hf9 : q - (i + 1) < f := by omega
        have hi9' : i + 1 ≤ q := by omega
        have hslen := slc_len (R := ks) (q := q) (j := i) (by omega) (by omega)
        generalize hfr0 : ks.length * i / q = fr at *
        generalize hen0 : ks.length * (i + 1) / q = en at *
        have hsl : slc ks q i = (ks.take en).drop fr := by unfold slc; rw [hfr0, hen0]
        generalize hCN : cutN (loS ks q i) (hiS ks q i) (ls.map (·.2)) = CN at *
        first | refine b_aload_n dX11_parts_47 rfl ?_ | refine b_aload_nN dX11_parts_47 rfl ?_
        refine b_getf dX11_parts_48 f11_9 (by first | assumption | exact mset_s | exact Rep.raw (by assumption) (by assumption) | (refine (mset_n (by first | assumption | exact Ne.symm (by assumption) | exact ne_fr (by assumption) (by assumption) | exact Ne.symm (ne_fr (by assumption) (by assumption)))).trans ?_; first | assumption | exact mset_s | exact Rep.raw (by assumption) (by assumption) | (refine (mset_n (by first | assumption | exact Ne.symm (by assumption) | exact ne_fr (by assumption) (by assumption) | exact Ne.symm (ne_fr (by assumption) (by assumption)))).trans ?_; first | assumption | exact mset_s | exact Rep.raw (by assumption) (by assumption) | (refine (mset_n (by first | assumption | exact Ne.symm (by assumption) | exact ne_fr (by assumption) (by assumption) | exact Ne.symm (ne_fr (by assumption) (by assumption)))).trans ?_; first | assumption | exact mset_s | exact Rep.raw (by assumption) (by assumption) | (refine (mset_n (by first | assumption | exact Ne.symm (by assumption) | exact ne_fr (by assumption) (by assumption) | exact Ne.symm (ne_fr (by assumption) (by assumption)))).trans ?_; first | assumption | exact mset_s | exact Rep.raw (by assumption) (by assumption) | (refine (mset_n (by first | assumption | exact Ne.symm (by assumption) | exact ne_fr (by assumption) (by assumption) | exact Ne.symm (ne_fr (by assumption) (by assumption)))).trans ?_; first | assumption | exact mset_s | exact Rep.raw (by assumption) (by assumption) | (refine (mset_n (by first | assumption | exact Ne.symm (by assumption) | exact ne_fr (by assumption) (by assumption) | exact Ne.symm (ne_fr (by assumption) (by assumption)))).trans ?_; first | assumption | exact mset_s | exact Rep.raw (by assumption) (by assumption) | (refine (mset_n (by first | assumption | exact Ne.symm (by assumption) | exact ne_fr (by assumption) (by assumption) | exact Ne.symm (ne_fr (by assumption) (by assumption)))).trans ?_; assumption)))))))) rfl ?_
        refine b_getf dX11_parts_51 f11_25 (by first | assumption | exact mset_s | exact Rep.raw (by assumption) (by assumption) | (refine (mset_n (by first | assumption | exact Ne.symm (by assumption) | exact ne_fr (by assumption) (by assumption) | exact Ne.symm (ne_fr (by assumption) (by assumption)))).trans ?_; first | assumption | exact mset_s | exact Rep.raw (by assumption) (by assumption) | (refine (mset_n (by first | assumption | exact Ne.symm (by assumption) | exact ne_fr (by assumption) (by assumption) | exact Ne.symm (ne_fr (by assumption) (by assumption)))).trans ?_; first | assumption | exact mset_s | exact Rep.raw (by assumption) (by assumption) | (refine (mset_n (by first | assumption | exact Ne.symm (by assumption) | exact ne_fr (by assumption) (by assumption) | exact Ne.symm (ne_fr (by assumption) (by assumption)))).trans ?_; first | assumption | exact mset_s | exact Rep.raw (by assumption) (by assumption) | (refine (mset_n (by first | assumption | exact Ne.symm (by assumption) | exact ne_fr (by assumption) (by assumption) | exact Ne.symm (ne_fr (by assumption) (by assumption)))).trans ?_; first | assumption | exact mset_s | exact Rep.raw (by assumption) (by assumption) | (refine (mset_n (by first | assumption | exact Ne.symm (by assumption) | exact ne_fr (by assumption) (by assumption) | exact Ne.symm (ne_fr (by assumption) (by assumption)))).trans ?_; first | assumption | exact mset_s | exact Rep.raw (by assumption) (by assumption) | (refine (mset_n (by first | assumption | exact Ne.symm (by assumption) | exact ne_fr (by assumption) (by assumption) | exact Ne.symm (ne_fr (by assumption) (by assumption)))).trans ?_; first | assumption | exact mset_s | exact Rep.raw (by assumption) (by assumption) | (refine (mset_n (by first | assumption | exact Ne.symm (by assumption) | exact ne_fr (by assumption) (by assumption) | exact Ne.symm (ne_fr (by assumption) (by assumption)))).trans ?_; assumption)))))))) rfl ?_
        refine b_iload dX11_parts_54 rfl ?_
        first | refine b_imulN dX11_parts_56 ?_ | refine b_imul dX11_parts_56 ?_
        refine b_iload dX11_parts_57 rfl ?_
        refine b_idivN dX11_parts_59 (by omega) (by omega) (by omega) ?_
        refine bB.top (v' := .int (nI fr)) (by rw [hfr0]) ?_
        refine b_istore dX11_parts_60 (by decide) ?_
        first | refine b_aload_n dX11_parts_62 rfl ?_ | refine b_aload_nN dX11_parts_62 rfl ?_
        refine b_getf dX11_parts_63 f11_9 (by first | assumption | exact mset_s | exact Rep.raw (by assumption) (by assumption) | (refine (mset_n (by first | assumption | exact Ne.symm (by assumption) | exact ne_fr (by assumption) (by assumption) | exact Ne.symm (ne_fr (by assumption) (by assumption)))).trans ?_; first | assumption | exact mset_s | exact Rep.raw (by assumption) (by assumption) | (refine (mset_n (by first | assumption | exact Ne.symm (by assumption) | exact ne_fr (by assumption) (by assumption) | exact Ne.symm (ne_fr (by assumption) (by assumption)))).trans ?_; first | assumption | exact mset_s | exact Rep.raw (by assumption) (by assumption) | (refine (mset_n (by first | assumption | exact Ne.symm (by assumption) | exact ne_fr (by assumption) (by assumption) | exact Ne.symm (ne_fr (by assumption) (by assumption)))).trans ?_; first | assumption | exact mset_s | exact Rep.raw (by assumption) (by assumption) | (refine (mset_n (by first | assumption | exact Ne.symm (by assumption) | exact ne_fr (by assumption) (by assumption) | exact Ne.symm (ne_fr (by assumption) (by assumption)))).trans ?_; first | assumption | exact mset_s | exact Rep.raw (by assumption) (by assumption) | (refine (mset_n (by first | assumption | exact Ne.symm (by assumption) | exact ne_fr (by assumption) (by assumption) | exact Ne.symm (ne_fr (by assumption) (by assumption)))).trans ?_; first | assumption | exact mset_s | exact Rep.raw (by assumption) (by assumption) | (refine (mset_n (by first | assumption | exact Ne.symm (by assumption) | exact ne_fr (by assumption) (by assumption) | exact Ne.symm (ne_fr (by assumption) (by assumption)))).trans ?_; first | assumption | exact mset_s | exact Rep.raw (by assumption) (by assumption) | (refine (mset_n (by first | assumption | exact Ne.symm (by assumption) | exact ne_fr (by assumption) (by assumption) | exact Ne.symm (ne_fr (by assumption) (by assumption)))).trans ?_; assumption)))))))) rfl ?_
        refine b_getf dX11_parts_66 f11_25 (by first | assumption | exact mset_s | exact Rep.raw (by assumption) (by assumption) | (refine (mset_n (by first | assumption | exact Ne.symm (by assumption) | exact ne_fr (by assumption) (by assumption) | exact Ne.symm (ne_fr (by assumption) (by assumption)))).trans ?_; first | assumption | exact mset_s | exact Rep.raw (by assumption) (by assumption) | (refine (mset_n (by first | assumption | exact Ne.symm (by assumption) | exact ne_fr (by assumption) (by assumption) | exact Ne.symm (ne_fr (by assumption) (by assumption)))).trans ?_; first | assumption | exact mset_s | exact Rep.raw (by assumption) (by assumption) | (refine (mset_n (by first | assumption | exact Ne.symm (by assumption) | exact ne_fr (by assumption) (by assumption) | exact Ne.symm (ne_fr (by assumption) (by assumption)))).trans ?_; first | assumption | exact mset_s | exact Rep.raw (by assumption) (by assumption) | (refine (mset_n (by first | assumption | exact Ne.symm (by assumption) | exact ne_fr (by assumption) (by assumption) | exact Ne.symm (ne_fr (by assumption) (by assumption)))).trans ?_; first | assumption | exact mset_s | exact Rep.raw (by assumption) (by assumption) | (refine (mset_n (by first | assumption | exact Ne.symm (by assumption) | exact ne_fr (by assumption) (by assumption) | exact Ne.symm (ne_fr (by assumption) (by assumption)))).trans ?_; first | assumption | exact mset_s | exact Rep.raw (by assumption) (by assumption) | (refine (mset_n (by first | assumption | exact Ne.symm (by assumption) | exact ne_fr (by assumption) (by assumption) | exact Ne.symm (ne_fr (by assumption) (by assumption)))).trans ?_; first | assumption | exact mset_s | exact Rep.raw (by assumption) (by assumption) | (refine (mset_n (by first | assumption | exact Ne.symm (by assumption) | exact ne_fr (by assumption) (by assumption) | exact Ne.symm (ne_fr (by assumption) (by assumption)))).trans ?_; assumption)))))))) rfl ?_
        refine b_iload dX11_parts_69 rfl ?_
        refine b_iconst (v := 1) dX11_parts_71 (by decide) ?_
        first | refine b_iaddK (c := 1) dX11_parts_72 (by decide) ?_ | refine b_iadd dX11_parts_72 ?_
        first | refine b_imulN dX11_parts_73 ?_ | refine b_imul dX11_parts_73 ?_
        refine b_iload dX11_parts_74 rfl ?_
        refine b_idivN dX11_parts_76 (by omega) (by omega) (by omega) ?_
        refine bB.top (v' := .int (nI en)) (by rw [hen0]) ?_
        refine b_istore dX11_parts_77 (by decide) ?_
        refine b_new dX11_parts_79 n11_26 (by omega) (by omega) (fun a79 ha79 => ?_)
        refine b_dup dX11_parts_82 rfl ?_
        have hn79 := hRc.non ha79
        refine b_call (As := [.ref a79]) (rest := [.ref a79]) s11_93 dX11_parts_83 rfl rfl (fun ci hci => by cases hci; exact ⟨_, _, _, rfl, by first | assumption | exact mset_s | exact Rep.raw (by assumption) (by assumption) | (refine (mset_n (by first | assumption | exact Ne.symm (by assumption) | exact ne_fr (by assumption) (by assumption) | exact Ne.symm (ne_fr (by assumption) (by assumption)))).trans ?_; first | assumption | exact mset_s | exact Rep.raw (by assumption) (by assumption) | (refine (mset_n (by first | assumption | exact Ne.symm (by assumption) | exact ne_fr (by assumption) (by assumption) | exact Ne.symm (ne_fr (by assumption) (by assumption)))).trans ?_; first | assumption | exact mset_s | exact Rep.raw (by assumption) (by assumption) | (refine (mset_n (by first | assumption | exact Ne.symm (by assumption) | exact ne_fr (by assumption) (by assumption) | exact Ne.symm (ne_fr (by assumption) (by assumption)))).trans ?_; first | assumption | exact mset_s | exact Rep.raw (by assumption) (by assumption) | (refine (mset_n (by first | assumption | exact Ne.symm (by assumption) | exact ne_fr (by assumption) (by assumption) | exact Ne.symm (ne_fr (by assumption) (by assumption)))).trans ?_; first | assumption | exact mset_s | exact Rep.raw (by assumption) (by assumption) | (refine (mset_n (by first | assumption | exact Ne.symm (by assumption) | exact ne_fr (by assumption) (by assumption) | exact Ne.symm (ne_fr (by assumption) (by assumption)))).trans ?_; first | assumption | exact mset_s | exact Rep.raw (by assumption) (by assumption) | (refine (mset_n (by first | assumption | exact Ne.symm (by assumption) | exact ne_fr (by assumption) (by assumption) | exact Ne.symm (ne_fr (by assumption) (by assumption)))).trans ?_; first | assumption | exact mset_s | exact Rep.raw (by assumption) (by assumption) | (refine (mset_n (by first | assumption | exact Ne.symm (by assumption) | exact ne_fr (by assumption) (by assumption) | exact Ne.symm (ne_fr (by assumption) (by assumption)))).trans ?_; assumption)))))))⟩) (sp_pgsInit (d := 1) aset_s (by omega) (by omega) (by omega) _ (hRc.new ha79 _)) (by first | (rintro _ _ _ _ ⟨h, -⟩; exact ⟨_, h⟩) | (rintro _ _ _ _ ⟨_, h, -⟩; exact ⟨_, h⟩) | (rintro _ _ _ _ ⟨_, _, h, -⟩; exact ⟨_, h⟩) | (rintro _ _ _ _ ⟨_, _, _, h, -⟩; exact ⟨_, h⟩) | (rintro _ _ _ _ ⟨_, _, _, _, h, -⟩; exact ⟨_, h⟩)) (by first | assumption | omega) (Nat.le_of_ble_eq_true rfl) (fun v1 μ1 k1 n1 hk1 hn1 hQ1 => ?_)
        obtain ⟨α1, hR1, z1, z2, z3, z4⟩ := hQ1
        cases z1
        rw [aset2] at z2
        subst z2
        first | refine b_astore dX11_parts_86 (by decide) ?_ | refine b_astoreN dX11_parts_86 (by decide) ?_
        refine b_iload dX11_parts_88 rfl ?_
        refine b_istore dX11_parts_90 (by decide) ?_
        have hold79 : ∀ x o (L : AO), αi x = some o → aset αi a79 L x = some o := fun x o L hx => (aset_n (fun e => by rw [e, hn79] at hx; cases hx)).trans hx
        -- what follows the copying of children
        have nxt : ∀ (c9 : Nat) (μ2 : Mem) (k2 n2 : Nat), Rep (aset αi a79 (oP (kA (slc ks q i)) c9)) μ2 → 4 ≤ c9 → (c9 = 4 ∨ c9 + 2 ≤ 2 * (slc ks q i).length) → nc + 5 = n2 + 4 * c9 → 4 * kc + n2 ≤ 4 * k2 + nc + 1 →
            bB g l M11_parts d Q 131 [(0, .ref p), (1, .int now), (2, .int lo), (3, .int hi), (4, .ref ca), (5, .int (nI q)), (6, .int (nI i)), (8, .int (nI en)), (9, .ref a79)] [] μ2 k2 n2 := by
          intro c9 μ2 k2 n2 hR2 hc9 hc9b hn2 hcoup
          rw [hslen] at hc9b
          have hc14 : c9 ≤ 14 := by omega
          have hTA : Th (aset αi a79 (oP (kA (slc ks q i)) c9)) (h + 1) (mkN p cp cl now ks ls c1 c2) := hTi.ext (fun x o hx => hold79 x o _ hx)
          obtain ⟨mA1, ⟨xA, yA, xsA, zsA, hpgA⟩, -, -, -⟩ := hTA.nodeC hR2
          have hpgA0 := hpgA.1
          obtain ⟨cE, hcE⟩ := at_of (l := ks) (j := en - 1) (by omega)
          obtain ⟨cF0, hcF0⟩ := at_of (l := ks) (j := fr) (by omega)
          have hhiS : hiS ks q i = cE.2.1 := by unfold hiS; rw [hen0, hcE]
          have hloS : loS ks q i = cF0.1 := by unfold loS; rw [hfr0, hcF0]
          have hsl0 : (slc ks q i)[0]? = some cF0 := by
            rw [slc_at (by rw [hfr0, hen0]; omega), hfr0, Nat.add_zero]
            exact hcF0
          first | refine b_aload_n dX11_parts_131 rfl ?_ | refine b_aload_nN dX11_parts_131 rfl ?_
          refine b_getf dX11_parts_132 f11_9 (by first | assumption | exact mset_s | exact Rep.raw (by assumption) (by assumption) | (refine (mset_n (by first | assumption | exact Ne.symm (by assumption) | exact ne_fr (by assumption) (by assumption) | exact Ne.symm (ne_fr (by assumption) (by assumption)))).trans ?_; first | assumption | exact mset_s | exact Rep.raw (by assumption) (by assumption) | (refine (mset_n (by first | assumption | exact Ne.symm (by assumption) | exact ne_fr (by assumption) (by assumption) | exact Ne.symm (ne_fr (by assumption) (by assumption)))).trans ?_; first | assumption | exact mset_s | exact Rep.raw (by assumption) (by assumption) | (refine (mset_n (by first | assumption | exact Ne.symm (by assumption) | exact ne_fr (by assumption) (by assumption) | exact Ne.symm (ne_fr (by assumption) (by assumption)))).trans ?_; first | assumption | exact mset_s | exact Rep.raw (by assumption) (by assumption) | (refine (mset_n (by first | assumption | exact Ne.symm (by assumption) | exact ne_fr (by assumption) (by assumption) | exact Ne.symm (ne_fr (by assumption) (by assumption)))).trans ?_; first | assumption | exact mset_s | exact Rep.raw (by assumption) (by assumption) | (refine (mset_n (by first | assumption | exact Ne.symm (by assumption) | exact ne_fr (by assumption) (by assumption) | exact Ne.symm (ne_fr (by assumption) (by assumption)))).trans ?_; first | assumption | exact mset_s | exact Rep.raw (by assumption) (by assumption) | (refine (mset_n (by first | assumption | exact Ne.symm (by assumption) | exact ne_fr (by assumption) (by assumption) | exact Ne.symm (ne_fr (by assumption) (by assumption)))).trans ?_; first | assumption | exact mset_s | exact Rep.raw (by assumption) (by assumption) | (refine (mset_n (by first | assumption | exact Ne.symm (by assumption) | exact ne_fr (by assumption) (by assumption) | exact Ne.symm (ne_fr (by assumption) (by assumption)))).trans ?_; assumption)))))))) rfl ?_
          refine b_iload dX11_parts_135 rfl ?_
          refine b_iconst (v := 1) dX11_parts_137 (by decide) ?_
          first | refine b_isubK (c := 1) dX11_parts_138 (by decide) (by omega) ?_ | refine b_isub dX11_parts_138 ?_
          refine b_iload_n dX11_parts_139 rfl ?_
          refine b_callA (As := [.ref cp, .int (nI (en - 1)), .int hi]) (rest := []) s11_36 dX11_parts_140 rfl rfl (fun ci hci => by cases hci; exact ⟨_, _, _, rfl, by first | assumption | exact mset_s | exact Rep.raw (by assumption) (by assumption) | (refine (mset_n (by first | assumption | exact Ne.symm (by assumption) | exact ne_fr (by assumption) (by assumption) | exact Ne.symm (ne_fr (by assumption) (by assumption)))).trans ?_; first | assumption | exact mset_s | exact Rep.raw (by assumption) (by assumption) | (refine (mset_n (by first | assumption | exact Ne.symm (by assumption) | exact ne_fr (by assumption) (by assumption) | exact Ne.symm (ne_fr (by assumption) (by assumption)))).trans ?_; first | assumption | exact mset_s | exact Rep.raw (by assumption) (by assumption) | (refine (mset_n (by first | assumption | exact Ne.symm (by assumption) | exact ne_fr (by assumption) (by assumption) | exact Ne.symm (ne_fr (by assumption) (by assumption)))).trans ?_; first | assumption | exact mset_s | exact Rep.raw (by assumption) (by assumption) | (refine (mset_n (by first | assumption | exact Ne.symm (by assumption) | exact ne_fr (by assumption) (by assumption) | exact Ne.symm (ne_fr (by assumption) (by assumption)))).trans ?_; first | assumption | exact mset_s | exact Rep.raw (by assumption) (by assumption) | (refine (mset_n (by first | assumption | exact Ne.symm (by assumption) | exact ne_fr (by assumption) (by assumption) | exact Ne.symm (ne_fr (by assumption) (by assumption)))).trans ?_; first | assumption | exact mset_s | exact Rep.raw (by assumption) (by assumption) | (refine (mset_n (by first | assumption | exact Ne.symm (by assumption) | exact ne_fr (by assumption) (by assumption) | exact Ne.symm (ne_fr (by assumption) (by assumption)))).trans ?_; first | assumption | exact mset_s | exact Rep.raw (by assumption) (by assumption) | (refine (mset_n (by first | assumption | exact Ne.symm (by assumption) | exact ne_fr (by assumption) (by assumption) | exact Ne.symm (ne_fr (by assumption) (by assumption)))).trans ?_; assumption)))))))⟩) (sp_high (d := d - 1) hpgA (by rw [kA_len]; omega)) (by first | assumption | omega) (Nat.le_of_ble_eq_true rfl) ?_
          rw [hiP_kid hch hcE, ← hhiS]
          refine b_istore dX11_parts_143 (by decide) ?_
          refine b_new dX11_parts_145 n11_49 (by omega) (by omega) (fun a145 ha145 => ?_)
          refine b_dup dX11_parts_148 rfl ?_
          have hn145 := hR2.non ha145
          have n145 : a145 ≠ a79 := fun e => by rw [e, aset_s] at hn145; cases hn145
          refine b_call (As := [.ref a145]) (rest := [.ref a145]) s11_99 dX11_parts_149 rfl rfl (fun ci hci => by cases hci; exact ⟨_, _, _, rfl, by first | assumption | exact mset_s | exact Rep.raw (by assumption) (by assumption) | (refine (mset_n (by first | assumption | exact Ne.symm (by assumption) | exact ne_fr (by assumption) (by assumption) | exact Ne.symm (ne_fr (by assumption) (by assumption)))).trans ?_; first | assumption | exact mset_s | exact Rep.raw (by assumption) (by assumption) | (refine (mset_n (by first | assumption | exact Ne.symm (by assumption) | exact ne_fr (by assumption) (by assumption) | exact Ne.symm (ne_fr (by assumption) (by assumption)))).trans ?_; first | assumption | exact mset_s | exact Rep.raw (by assumption) (by assumption) | (refine (mset_n (by first | assumption | exact Ne.symm (by assumption) | exact ne_fr (by assumption) (by assumption) | exact Ne.symm (ne_fr (by assumption) (by assumption)))).trans ?_; first | assumption | exact mset_s | exact Rep.raw (by assumption) (by assumption) | (refine (mset_n (by first | assumption | exact Ne.symm (by assumption) | exact ne_fr (by assumption) (by assumption) | exact Ne.symm (ne_fr (by assumption) (by assumption)))).trans ?_; first | assumption | exact mset_s | exact Rep.raw (by assumption) (by assumption) | (refine (mset_n (by first | assumption | exact Ne.symm (by assumption) | exact ne_fr (by assumption) (by assumption) | exact Ne.symm (ne_fr (by assumption) (by assumption)))).trans ?_; first | assumption | exact mset_s | exact Rep.raw (by assumption) (by assumption) | (refine (mset_n (by first | assumption | exact Ne.symm (by assumption) | exact ne_fr (by assumption) (by assumption) | exact Ne.symm (ne_fr (by assumption) (by assumption)))).trans ?_; first | assumption | exact mset_s | exact Rep.raw (by assumption) (by assumption) | (refine (mset_n (by first | assumption | exact Ne.symm (by assumption) | exact ne_fr (by assumption) (by assumption) | exact Ne.symm (ne_fr (by assumption) (by assumption)))).trans ?_; assumption)))))))⟩) (sp_letInit (d := 1) aset_s (by omega) (by omega) (by omega) _ (hR2.new ha145 _)) (by first | (rintro _ _ _ _ ⟨h, -⟩; exact ⟨_, h⟩) | (rintro _ _ _ _ ⟨_, h, -⟩; exact ⟨_, h⟩) | (rintro _ _ _ _ ⟨_, _, h, -⟩; exact ⟨_, h⟩) | (rintro _ _ _ _ ⟨_, _, _, h, -⟩; exact ⟨_, h⟩) | (rintro _ _ _ _ ⟨_, _, _, _, h, -⟩; exact ⟨_, h⟩)) (by first | assumption | omega) (Nat.le_of_ble_eq_true rfl) (fun v5 μ5 k5 n5 hk5 hn5 hQ5 => ?_)
          obtain ⟨α5, hR5, x1, x2, x3, x4⟩ := hQ5
          cases x1
          rw [aset2] at x2
          subst x2
          first | refine b_astore dX11_parts_152 (by decide) ?_ | refine b_astoreN dX11_parts_152 (by decide) ?_
          refine b_iconst (v := 0) dX11_parts_154 (by decide) ?_
          refine b_istore dX11_parts_155 (by decide) ?_
          have hold145 : ∀ x o (L : AO), aset αi a79 (oP (kA (slc ks q i)) c9) x = some o → aset (aset αi a79 (oP (kA (slc ks q i)) c9)) a145 L x = some o := fun x o L hx => (aset_n (fun e => by rw [e, hn145] at hx; cases hx)).trans hx
          refine bB.locs rfl (lp_nlet (fr := 0) (en := 0) (c1 := c1) (c2 := c2) (a79 := a79) (a145 := a145) (nS := n5) (kS := k5) (sl := slc ks q i) (cS := c9) (αS := aset (aset αi a79 (oP (kA (slc ks q i)) c9)) a145 (oL [] 8)) (hTA.ext (fun x o hx => hold145 x o _ hx)) (hold145 _ _ _ aset_s) ⟨cF0, hsl0, hloS.symm⟩ hL n145 aset_s (fun x hx e => ?_) (by rw [hCN]; omega) (by omega) (by omega) (by omega) ?_ (ls.length + 1) 0 _ _ [] 8 _ _ (by omega) (by omega) hR5 aset_s rfl (fun q' h' => by cases h') (fun x o hx _ => hx) (Nat.le_refl _) (Or.inl rfl) (by show n5 + 16 = n5 + 2 * 8 + 4 * 0; omega) (Nat.le_refl _))
          · obtain ⟨o, ho, -⟩ := Th.all_at _ _ hTA x hx
            rw [e, hn145] at ho; cases ho
          intro αF μF lq cF kF nF hRF h145F hlq hallF hfrF hcF hcF46 hnF hcoupF
          rw [hCN] at hnF
          have h79F : αF a79 = some (oP (kA (slc ks q i)) c9) := hfrF a79 _ (hold145 _ _ _ aset_s) n145.symm
          have holdF : ∀ x o, αi x = some o → αF x = some o := fun x o hx => hfrF x o (hold145 x o _ (hold79 x o _ hx)) (fun e => by
            have := hold79 x o (oP (kA (slc ks q i)) c9) hx
            rw [e, hn145] at this; cases this)
          have hcaF := holdF ca _ hcai
          have nca79 : ca ≠ a79 := fun e => by rw [e, hn79] at hcai; cases hcai
          have nca145 : ca ≠ a145 := fun e => by
            have := hold79 ca _ (oP (kA (slc ks q i)) c9) hcai
            rw [e, hn145] at this; cases this
          have hallFn : allG αF (kA ns) := fun z hz => by
            obtain ⟨c', hc', rfl⟩ := List.mem_map.mp hz
            exact (hTh c' hc').pg.ext (fun x o hx => holdF x o hx)
          have hkl : (kA ns).length = i := by rw [kA_len]; exact hlen
          have hlo0 : i = 0 → lo = loS ks q i := fun hi0 => by
            rw [hloS]
            have hfr00 : fr = 0 := by rw [← hfr0, hi0]; simp
            rw [hfr00] at hcF0
            cases hk9 : ks with
            | nil => rw [hk9] at h9; simp at h9
            | cons c8 t8 =>
              rw [hk9] at hcF0 hch
              have : c8 = cF0 := by simpa using hcF0
              subst this
              exact (i_eq.mpr hch.1).symm
          have hpreF := np_pre hncb hn2 x4 hnF hc14 hcF46
          have h10 : 10 ≤ n2 := by clear hbud h152; omega
          have hknF := np_kn hknc hcoup x4 x3 hcoupF h10
          have hi399 : i < 399 := Nat.lt_of_le_of_lt hi' (Nat.lt_of_le_of_lt hq2.2 (by decide))
          refine lp_ntail (ci := ci) hRF h79F h145F hcaF hallFn ⟨cF0, hsl0, hloS.symm⟩ hlo0 hi399 (by rw [hkl]; exact Nat.le_of_lt hi399) hci4 hci8 hpreF hknF hd ?_
          intro α8 μ8 a229 c8 k8 n8 hR8 hn229 h2298 hca8 hold8 hc84 hc88 hcic8 hn8 hkn8
          have n229a : a229 ≠ a79 := fun e => by rw [e, h79F] at hn229; cases hn229
          have n229b : a229 ≠ a145 := fun e => by rw [e, h145F] at hn229; cases hn229
          have nca229 : ca ≠ a229 := fun e => by rw [← e, hcaF] at hn229; cases hn229
          have hi8x : ∀ x o, αi x = some o → x ≠ ca → α8 x = some o := fun x o hx hne => hold8 x o (holdF x o hx) hne
          have hnone : ∀ x, αi x = none → x ≠ ca → α x = none := fun x hx hne => by
            cases hy : α x with
            | none => rfl
            | some o => rw [hkeep x o hy hne] at hx; cases hx
          have hn229i : αi a229 = none := by
            cases hy : αi a229 with
            | none => rfl
            | some o => rw [holdF a229 o hy] at hn229; cases hn229
          have hn145i : αi a145 = none := by
            cases hy : αi a145 with
            | none => rfl
            | some o => rw [hold79 a145 o _ hy] at hn145; cases hn145
          have hmsgi : ∀ x m, αi x = some (oW (mC m)) → α8 x = some (oW (mC m)) := fun x m hx => hi8x x _ hx (fun e => by rw [e, hcai] at hx; cases hx)
          have hndc : ndc (h := h) (loS ks q i, hiS ks q i, mkN a229 a79 a145 now (slc ks q i) lq c9 cF) = 4 * c9 + 2 * cF - 8 := rfl
          have hksn : ksum ndc (ns ++ ([(loS ks q i, hiS ks q i, mkN a229 a79 a145 now (slc ks q i) lq c9 cF)] : List (Kid (h + 1)))) = ksum ndc ns + (4 * c9 + 2 * cF - 8) := by rw [ksum_app, ksum_cons, ksum_nil, hndc]; rfl
          refine ihf (i + 1) c8 (ns ++ ([(loS ks q i, hiS ks q i, mkN a229 a79 a145 now (slc ks q i) lq c9 cF)] : List (Kid (h + 1)))) α8 _ _ _ hf9 hi9' hR8 (by rw [List.length_append, hlen]; rfl) ?_ ?_ ?_ ?_ (fun x o hx hxc => hi8x x o (hkeep x o hx hxc) hxc) ?_ hc84 hc88 ?_ ?_ hkn8
          · intro j c hc
            by_cases e : j < ns.length
            · rw [List.getElem?_append_left e] at hc
              exact hnds j c hc
            · rw [List.getElem?_append_right (Nat.le_of_not_lt e)] at hc
              have h0 : j - ns.length = 0 := by
                have := (List.getElem?_eq_some_iff.mp hc).1
                rw [List.length_singleton] at this
                exact Nat.lt_one_iff.mp this
              rw [h0] at hc
              cases hc
              have ej : j = i := by rw [← hlen]; exact Nat.le_antisymm (Nat.sub_eq_zero_iff_le.mp h0) (Nat.le_of_not_lt e)
              subst ej
              exact ⟨rfl, rfl, a229, a79, a145, lq, c9, cF, rfl, hlq, hc9, by rw [hslen]; exact hc9b, hcF, hcF46⟩
          · intro c hc
            rcases List.mem_append.mp hc with hc | hc
            · refine Th.keptT (h + 1) _ (hTh c hc) (fun x o hx ho => hi8x x o ho (fun e => ?_)) hmsgi
              obtain ⟨j9, hj9⟩ := mem_get.mp hc
              obtain ⟨-, -, p9', cp9, cl9, lj9, c19, c29, e9, -⟩ := hnds j9 c hj9
              have hx9 : x ∈ [p9', cp9, cl9] ++ (slc ks q j9).flatMap (fun c => allT h c.2.2) := by
                have h8 := hx
                rw [e9] at h8
                exact h8
              rcases List.mem_append.mp hx9 with h' | h'
              · have h8 := hfr c hc x (by unfold ad3; rw [e9]; exact h')
                rw [e, hca] at h8; cases h8
              · obtain ⟨c8', hc8', hx8⟩ := List.mem_flatMap.mp h'
                exact hcan x (List.mem_append_right _ (List.mem_flatMap.mpr ⟨c8', List.mem_of_mem_take (List.mem_of_mem_drop hc8'), hx8⟩)) e
            · rw [List.mem_singleton.mp hc]
              refine ⟨h2298, hold8 _ _ h79F nca79.symm, hold8 _ _ h145F nca145.symm, fun q' hq' => ?_, fun c' hc' => ?_⟩
              · exact hold8 _ _ (hallF q' hq') (fun e => by have h8 := hallF q' hq'; rw [e, hcaF] at h8; cases h8)
              · have hcm : c' ∈ ks := List.mem_of_mem_take (List.mem_of_mem_drop hc')
                exact Th.keptT h _ (hTi.2.2.2.2 c' hcm) (fun x o hx ho => hi8x x o ho (hcan x (List.mem_append_right _ (List.mem_flatMap.mpr ⟨c', hcm, hx⟩)))) hmsgi
          · rw [List.flatMap_append, List.nodup_append]
            refine ⟨hnd, ?_, ?_⟩
            · show [a229, a79, a145].Nodup
              simp
              exact ⟨⟨n229a, n229b⟩, n145.symm⟩
            · intro x hx y hy e
              subst e
              obtain ⟨c, hc, hx⟩ := List.mem_flatMap.mp hx
              have hin : x ∈ allT (h + 1) c.2.2 := by
                obtain ⟨lo8, hi8, ⟨p8, cp8, cl8⟩, o8, ks8, ls8, c18, c28⟩ := c
                exact List.mem_append_left _ hx
              obtain ⟨o, ho, -⟩ := Th.all_at _ _ (hTh c hc) x hin
              have hy' : x ∈ [a229, a79, a145] := hy
              rcases List.mem_cons.mp hy' with e | hy'
              · rw [e, hn229i] at ho; cases ho
              · rcases List.mem_cons.mp hy' with e | hy'
                · rw [e, hn79] at ho; cases ho
                · rw [List.mem_singleton.mp hy', hn145i] at ho; cases ho
          · intro c hc x hx
            rcases List.mem_append.mp hc with hc | hc
            · exact hfr c hc x hx
            · rw [List.mem_singleton.mp hc] at hx
              have hx' : x ∈ [a229, a79, a145] := hx
              rcases List.mem_cons.mp hx' with e | hx'
              · rw [e]; exact hnone _ hn229i nca229.symm
              · rcases List.mem_cons.mp hx' with e | hx'
                · rw [e]; exact hnone _ hn79 nca79.symm
                · rw [List.mem_singleton.mp hx']; exact hnone _ hn145i nca145.symm
          · rw [kA_snoc]
            exact hca8
          · rw [hksn, hNCs]
            exact np_num hbud hn2 x4 h10 hnF hn8 hcic8 hc88 hc9 hcF
          · rw [hksn]
            have hcc9 : 4 * c9 + 2 * cF - 8 ≤ 152 := by clear hbud hncb hnF hn8; omega
            rw [Nat.mul_succ]
            exact Nat.add_le_add h152 hcc9
        -- the children
        have lp1 : ∀ (f2 j c9 : Nat) (μ2 : Mem) (k2 n2 : Nat), en - j < f2 → fr ≤ j → j ≤ en → Rep (aset αi a79 (oP (((kA ks).take j).drop fr) c9)) μ2 → gP 4 (kc - 3) (nc - 11) c9 k2 n2 (en - fr) →
            bB g l M11_parts d Q 92 [(0, .ref p), (1, .int now), (2, .int lo), (3, .int hi), (4, .ref ca), (5, .int (nI q)), (6, .int (nI i)), (8, .int (nI en)), (9, .ref a79), (10, .int (nI j))] [] μ2 k2 n2 := by
          intro f2
          induction f2 with
          | zero => intro j c9 μ2 k2 n2 h; omega
          | succ f2 ihf2 =>
            intro j c9 μ2 k2 n2 hf2 hj1 hj2 hR2 hg
            have hTA : Th (aset αi a79 (oP (((kA ks).take j).drop fr) c9)) (h + 1) (mkN p cp cl now ks ls c1 c2) := hTi.ext (fun x o hx => hold79 x o _ hx)
            obtain ⟨mA1, ⟨xA, yA, xsA, zsA, pA1, pA2, pA3, pA4, pA5, pA6, pA7, pA8, pA9⟩, -, -, -⟩ := hTA.nodeC hR2
            rw [kA_len] at pA1 pA6 pA8 pA9
            have h79 : aset αi a79 (oP (((kA ks).take j).drop fr) c9) a79 = some (oP (((kA ks).take j).drop fr) c9) := aset_s
            obtain ⟨x6, y6, xs6, zs6, m6, -⟩ := hR2.pgs h79
            have hg' := hg
            unfold gP at hg'
            have hl2 : (((kA ks).take j).drop fr).length = j - fr := by rw [List.length_drop, List.length_take, kA_len]; omega
            refine b_iload dX11_parts_92 rfl ?_
            refine b_iload dX11_parts_94 rfl ?_
            refine b_icmp_ge (tgt := 131) dX11_parts_96 (by decide) (fun h96 => ?_) (fun h96 => ?_)
            · rw [nI_leI (by omega) (by omega)] at h96
              have e : j = en := by omega
              subst e
              have hks : ((kA ks).take j).drop fr = kA (slc ks q i) := by
                rw [hsl]
                unfold kA
                rw [← List.map_take, ← List.map_drop]
              rw [hks] at hR2
              exact bB.locs rfl (nxt c9 μ2 k2 n2 hR2 (by omega) (by rw [hslen]; omega) (by omega) (by omega))
            · rw [nI_leI (by omega) (by omega)] at h96
              obtain ⟨c, hc⟩ := at_of (l := ks) (j := j) (by omega)
              have hcm := List.mem_of_getElem? hc
              have hxj : xsA[j]? = some (some (adr h c.2.2)) := by
                have : (xsA.take ks.length)[j]? = some (some (adr h c.2.2)) := by rw [pA8, List.getElem?_map, kA_at hc]; rfl
                rwa [List.getElem?_take, if_pos (by omega)] at this
              have hix : ix xsA (nI j) = some (some (adr h c.2.2)) := by rw [ix_n (by omega)]; exact hxj
              have hzj : zsA[j]? = some c.1 := by
                have : (zsA.take ks.length)[j]? = some c.1 := by rw [pA9, List.getElem?_map, kA_at hc]; rfl
                rwa [List.getElem?_take, if_pos (by omega)] at this
              have hiz : ix zsA (nI j) = some c.1 := by rw [ix_n (by omega)]; exact hzj
              have hext : ext αi (aset αi a79 (oP (((kA ks).take j).drop fr) c9)) := fun x o hx => hold79 x o _ hx
              have hall : allG (aset αi a79 (oP (((kA ks).take j).drop fr) c9)) (((kA ks).take j).drop fr) := by
                intro z hz
                obtain ⟨c', hc', rfl⟩ := List.mem_map.mp (List.mem_of_mem_take (List.mem_of_mem_drop hz))
                exact (hTi.2.2.2.2 c' hc').pg.ext hext
              first | refine b_aload dX11_parts_99 rfl ?_ | refine b_aloadN dX11_parts_99 rfl ?_
              first | refine b_aload_n dX11_parts_101 rfl ?_ | refine b_aload_nN dX11_parts_101 rfl ?_
              refine b_getf dX11_parts_102 f11_9 (by first | assumption | exact mset_s | exact Rep.raw (by assumption) (by assumption) | (refine (mset_n (by first | assumption | exact Ne.symm (by assumption) | exact ne_fr (by assumption) (by assumption) | exact Ne.symm (ne_fr (by assumption) (by assumption)))).trans ?_; first | assumption | exact mset_s | exact Rep.raw (by assumption) (by assumption) | (refine (mset_n (by first | assumption | exact Ne.symm (by assumption) | exact ne_fr (by assumption) (by assumption) | exact Ne.symm (ne_fr (by assumption) (by assumption)))).trans ?_; first | assumption | exact mset_s | exact Rep.raw (by assumption) (by assumption) | (refine (mset_n (by first | assumption | exact Ne.symm (by assumption) | exact ne_fr (by assumption) (by assumption) | exact Ne.symm (ne_fr (by assumption) (by assumption)))).trans ?_; first | assumption | exact mset_s | exact Rep.raw (by assumption) (by assumption) | (refine (mset_n (by first | assumption | exact Ne.symm (by assumption) | exact ne_fr (by assumption) (by assumption) | exact Ne.symm (ne_fr (by assumption) (by assumption)))).trans ?_; first | assumption | exact mset_s | exact Rep.raw (by assumption) (by assumption) | (refine (mset_n (by first | assumption | exact Ne.symm (by assumption) | exact ne_fr (by assumption) (by assumption) | exact Ne.symm (ne_fr (by assumption) (by assumption)))).trans ?_; first | assumption | exact mset_s | exact Rep.raw (by assumption) (by assumption) | (refine (mset_n (by first | assumption | exact Ne.symm (by assumption) | exact ne_fr (by assumption) (by assumption) | exact Ne.symm (ne_fr (by assumption) (by assumption)))).trans ?_; first | assumption | exact mset_s | exact Rep.raw (by assumption) (by assumption) | (refine (mset_n (by first | assumption | exact Ne.symm (by assumption) | exact ne_fr (by assumption) (by assumption) | exact Ne.symm (ne_fr (by assumption) (by assumption)))).trans ?_; assumption)))))))) rfl ?_
              refine b_getf dX11_parts_105 f11_40 (by first | assumption | exact mset_s | exact Rep.raw (by assumption) (by assumption) | (refine (mset_n (by first | assumption | exact Ne.symm (by assumption) | exact ne_fr (by assumption) (by assumption) | exact Ne.symm (ne_fr (by assumption) (by assumption)))).trans ?_; first | assumption | exact mset_s | exact Rep.raw (by assumption) (by assumption) | (refine (mset_n (by first | assumption | exact Ne.symm (by assumption) | exact ne_fr (by assumption) (by assumption) | exact Ne.symm (ne_fr (by assumption) (by assumption)))).trans ?_; first | assumption | exact mset_s | exact Rep.raw (by assumption) (by assumption) | (refine (mset_n (by first | assumption | exact Ne.symm (by assumption) | exact ne_fr (by assumption) (by assumption) | exact Ne.symm (ne_fr (by assumption) (by assumption)))).trans ?_; first | assumption | exact mset_s | exact Rep.raw (by assumption) (by assumption) | (refine (mset_n (by first | assumption | exact Ne.symm (by assumption) | exact ne_fr (by assumption) (by assumption) | exact Ne.symm (ne_fr (by assumption) (by assumption)))).trans ?_; first | assumption | exact mset_s | exact Rep.raw (by assumption) (by assumption) | (refine (mset_n (by first | assumption | exact Ne.symm (by assumption) | exact ne_fr (by assumption) (by assumption) | exact Ne.symm (ne_fr (by assumption) (by assumption)))).trans ?_; first | assumption | exact mset_s | exact Rep.raw (by assumption) (by assumption) | (refine (mset_n (by first | assumption | exact Ne.symm (by assumption) | exact ne_fr (by assumption) (by assumption) | exact Ne.symm (ne_fr (by assumption) (by assumption)))).trans ?_; first | assumption | exact mset_s | exact Rep.raw (by assumption) (by assumption) | (refine (mset_n (by first | assumption | exact Ne.symm (by assumption) | exact ne_fr (by assumption) (by assumption) | exact Ne.symm (ne_fr (by assumption) (by assumption)))).trans ?_; assumption)))))))) rfl ?_
              refine b_iload dX11_parts_108 rfl ?_
              refine b_aald dX11_parts_110 (by first | assumption | exact mset_s | exact Rep.raw (by assumption) (by assumption) | (refine (mset_n (by first | assumption | exact Ne.symm (by assumption) | exact ne_fr (by assumption) (by assumption) | exact Ne.symm (ne_fr (by assumption) (by assumption)))).trans ?_; first | assumption | exact mset_s | exact Rep.raw (by assumption) (by assumption) | (refine (mset_n (by first | assumption | exact Ne.symm (by assumption) | exact ne_fr (by assumption) (by assumption) | exact Ne.symm (ne_fr (by assumption) (by assumption)))).trans ?_; first | assumption | exact mset_s | exact Rep.raw (by assumption) (by assumption) | (refine (mset_n (by first | assumption | exact Ne.symm (by assumption) | exact ne_fr (by assumption) (by assumption) | exact Ne.symm (ne_fr (by assumption) (by assumption)))).trans ?_; first | assumption | exact mset_s | exact Rep.raw (by assumption) (by assumption) | (refine (mset_n (by first | assumption | exact Ne.symm (by assumption) | exact ne_fr (by assumption) (by assumption) | exact Ne.symm (ne_fr (by assumption) (by assumption)))).trans ?_; first | assumption | exact mset_s | exact Rep.raw (by assumption) (by assumption) | (refine (mset_n (by first | assumption | exact Ne.symm (by assumption) | exact ne_fr (by assumption) (by assumption) | exact Ne.symm (ne_fr (by assumption) (by assumption)))).trans ?_; first | assumption | exact mset_s | exact Rep.raw (by assumption) (by assumption) | (refine (mset_n (by first | assumption | exact Ne.symm (by assumption) | exact ne_fr (by assumption) (by assumption) | exact Ne.symm (ne_fr (by assumption) (by assumption)))).trans ?_; first | assumption | exact mset_s | exact Rep.raw (by assumption) (by assumption) | (refine (mset_n (by first | assumption | exact Ne.symm (by assumption) | exact ne_fr (by assumption) (by assumption) | exact Ne.symm (ne_fr (by assumption) (by assumption)))).trans ?_; assumption)))))))) (by decide) (by first | assumption | exact ix_D (by first | assumption | omega) (by first | assumption | omega)) ?_
              first | refine b_aload_n dX11_parts_111 rfl ?_ | refine b_aload_nN dX11_parts_111 rfl ?_
              refine b_getf dX11_parts_112 f11_9 (by first | assumption | exact mset_s | exact Rep.raw (by assumption) (by assumption) | (refine (mset_n (by first | assumption | exact Ne.symm (by assumption) | exact ne_fr (by assumption) (by assumption) | exact Ne.symm (ne_fr (by assumption) (by assumption)))).trans ?_; first | assumption | exact mset_s | exact Rep.raw (by assumption) (by assumption) | (refine (mset_n (by first | assumption | exact Ne.symm (by assumption) | exact ne_fr (by assumption) (by assumption) | exact Ne.symm (ne_fr (by assumption) (by assumption)))).trans ?_; first | assumption | exact mset_s | exact Rep.raw (by assumption) (by assumption) | (refine (mset_n (by first | assumption | exact Ne.symm (by assumption) | exact ne_fr (by assumption) (by assumption) | exact Ne.symm (ne_fr (by assumption) (by assumption)))).trans ?_; first | assumption | exact mset_s | exact Rep.raw (by assumption) (by assumption) | (refine (mset_n (by first | assumption | exact Ne.symm (by assumption) | exact ne_fr (by assumption) (by assumption) | exact Ne.symm (ne_fr (by assumption) (by assumption)))).trans ?_; first | assumption | exact mset_s | exact Rep.raw (by assumption) (by assumption) | (refine (mset_n (by first | assumption | exact Ne.symm (by assumption) | exact ne_fr (by assumption) (by assumption) | exact Ne.symm (ne_fr (by assumption) (by assumption)))).trans ?_; first | assumption | exact mset_s | exact Rep.raw (by assumption) (by assumption) | (refine (mset_n (by first | assumption | exact Ne.symm (by assumption) | exact ne_fr (by assumption) (by assumption) | exact Ne.symm (ne_fr (by assumption) (by assumption)))).trans ?_; first | assumption | exact mset_s | exact Rep.raw (by assumption) (by assumption) | (refine (mset_n (by first | assumption | exact Ne.symm (by assumption) | exact ne_fr (by assumption) (by assumption) | exact Ne.symm (ne_fr (by assumption) (by assumption)))).trans ?_; assumption)))))))) rfl ?_
              refine b_getf dX11_parts_115 f11_31 (by first | assumption | exact mset_s | exact Rep.raw (by assumption) (by assumption) | (refine (mset_n (by first | assumption | exact Ne.symm (by assumption) | exact ne_fr (by assumption) (by assumption) | exact Ne.symm (ne_fr (by assumption) (by assumption)))).trans ?_; first | assumption | exact mset_s | exact Rep.raw (by assumption) (by assumption) | (refine (mset_n (by first | assumption | exact Ne.symm (by assumption) | exact ne_fr (by assumption) (by assumption) | exact Ne.symm (ne_fr (by assumption) (by assumption)))).trans ?_; first | assumption | exact mset_s | exact Rep.raw (by assumption) (by assumption) | (refine (mset_n (by first | assumption | exact Ne.symm (by assumption) | exact ne_fr (by assumption) (by assumption) | exact Ne.symm (ne_fr (by assumption) (by assumption)))).trans ?_; first | assumption | exact mset_s | exact Rep.raw (by assumption) (by assumption) | (refine (mset_n (by first | assumption | exact Ne.symm (by assumption) | exact ne_fr (by assumption) (by assumption) | exact Ne.symm (ne_fr (by assumption) (by assumption)))).trans ?_; first | assumption | exact mset_s | exact Rep.raw (by assumption) (by assumption) | (refine (mset_n (by first | assumption | exact Ne.symm (by assumption) | exact ne_fr (by assumption) (by assumption) | exact Ne.symm (ne_fr (by assumption) (by assumption)))).trans ?_; first | assumption | exact mset_s | exact Rep.raw (by assumption) (by assumption) | (refine (mset_n (by first | assumption | exact Ne.symm (by assumption) | exact ne_fr (by assumption) (by assumption) | exact Ne.symm (ne_fr (by assumption) (by assumption)))).trans ?_; first | assumption | exact mset_s | exact Rep.raw (by assumption) (by assumption) | (refine (mset_n (by first | assumption | exact Ne.symm (by assumption) | exact ne_fr (by assumption) (by assumption) | exact Ne.symm (ne_fr (by assumption) (by assumption)))).trans ?_; assumption)))))))) rfl ?_
              refine b_iload dX11_parts_118 rfl ?_
              refine b_iald dX11_parts_120 (by first | assumption | exact mset_s | exact Rep.raw (by assumption) (by assumption) | (refine (mset_n (by first | assumption | exact Ne.symm (by assumption) | exact ne_fr (by assumption) (by assumption) | exact Ne.symm (ne_fr (by assumption) (by assumption)))).trans ?_; first | assumption | exact mset_s | exact Rep.raw (by assumption) (by assumption) | (refine (mset_n (by first | assumption | exact Ne.symm (by assumption) | exact ne_fr (by assumption) (by assumption) | exact Ne.symm (ne_fr (by assumption) (by assumption)))).trans ?_; first | assumption | exact mset_s | exact Rep.raw (by assumption) (by assumption) | (refine (mset_n (by first | assumption | exact Ne.symm (by assumption) | exact ne_fr (by assumption) (by assumption) | exact Ne.symm (ne_fr (by assumption) (by assumption)))).trans ?_; first | assumption | exact mset_s | exact Rep.raw (by assumption) (by assumption) | (refine (mset_n (by first | assumption | exact Ne.symm (by assumption) | exact ne_fr (by assumption) (by assumption) | exact Ne.symm (ne_fr (by assumption) (by assumption)))).trans ?_; first | assumption | exact mset_s | exact Rep.raw (by assumption) (by assumption) | (refine (mset_n (by first | assumption | exact Ne.symm (by assumption) | exact ne_fr (by assumption) (by assumption) | exact Ne.symm (ne_fr (by assumption) (by assumption)))).trans ?_; first | assumption | exact mset_s | exact Rep.raw (by assumption) (by assumption) | (refine (mset_n (by first | assumption | exact Ne.symm (by assumption) | exact ne_fr (by assumption) (by assumption) | exact Ne.symm (ne_fr (by assumption) (by assumption)))).trans ?_; first | assumption | exact mset_s | exact Rep.raw (by assumption) (by assumption) | (refine (mset_n (by first | assumption | exact Ne.symm (by assumption) | exact ne_fr (by assumption) (by assumption) | exact Ne.symm (ne_fr (by assumption) (by assumption)))).trans ?_; assumption)))))))) (by first | assumption | exact ix_D (by first | assumption | omega) (by first | assumption | omega)) ?_
              refine b_call (As := [.ref a79, .ref (adr h c.2.2), .int c.1]) (rest := []) s11_96 dX11_parts_121 rfl rfl (fun ci hci => by cases hci; exact ⟨_, _, _, rfl, by first | assumption | exact mset_s | exact Rep.raw (by assumption) (by assumption) | (refine (mset_n (by first | assumption | exact Ne.symm (by assumption) | exact ne_fr (by assumption) (by assumption) | exact Ne.symm (ne_fr (by assumption) (by assumption)))).trans ?_; first | assumption | exact mset_s | exact Rep.raw (by assumption) (by assumption) | (refine (mset_n (by first | assumption | exact Ne.symm (by assumption) | exact ne_fr (by assumption) (by assumption) | exact Ne.symm (ne_fr (by assumption) (by assumption)))).trans ?_; first | assumption | exact mset_s | exact Rep.raw (by assumption) (by assumption) | (refine (mset_n (by first | assumption | exact Ne.symm (by assumption) | exact ne_fr (by assumption) (by assumption) | exact Ne.symm (ne_fr (by assumption) (by assumption)))).trans ?_; first | assumption | exact mset_s | exact Rep.raw (by assumption) (by assumption) | (refine (mset_n (by first | assumption | exact Ne.symm (by assumption) | exact ne_fr (by assumption) (by assumption) | exact Ne.symm (ne_fr (by assumption) (by assumption)))).trans ?_; first | assumption | exact mset_s | exact Rep.raw (by assumption) (by assumption) | (refine (mset_n (by first | assumption | exact Ne.symm (by assumption) | exact ne_fr (by assumption) (by assumption) | exact Ne.symm (ne_fr (by assumption) (by assumption)))).trans ?_; first | assumption | exact mset_s | exact Rep.raw (by assumption) (by assumption) | (refine (mset_n (by first | assumption | exact Ne.symm (by assumption) | exact ne_fr (by assumption) (by assumption) | exact Ne.symm (ne_fr (by assumption) (by assumption)))).trans ?_; first | assumption | exact mset_s | exact Rep.raw (by assumption) (by assumption) | (refine (mset_n (by first | assumption | exact Ne.symm (by assumption) | exact ne_fr (by assumption) (by assumption) | exact Ne.symm (ne_fr (by assumption) (by assumption)))).trans ?_; assumption)))))))⟩) (sp_padd' (d := d - 1) h79 ((hTi.2.2.2.2 c hcm).pg.ext hext) hall (N := en - fr) (by omega) (by omega) (by omega) (by omega) (by omega) _ hR2) (by first | (rintro _ _ _ _ ⟨h, -⟩; exact ⟨_, h⟩) | (rintro _ _ _ _ ⟨_, h, -⟩; exact ⟨_, h⟩) | (rintro _ _ _ _ ⟨_, _, h, -⟩; exact ⟨_, h⟩) | (rintro _ _ _ _ ⟨_, _, _, h, -⟩; exact ⟨_, h⟩) | (rintro _ _ _ _ ⟨_, _, _, _, h, -⟩; exact ⟨_, h⟩)) (by first | assumption | omega) (Nat.le_of_ble_eq_true rfl) (fun v5 μ5 k5 n5 hk5 hn5 hQ5 => ?_)
              obtain ⟨α5, hR5, x1, c5, x2, x3⟩ := hQ5
              cases x1
              have e3 : ((kA ks).take j).drop fr ++ [(adr h c.2.2, c.1)] = ((kA ks).take (j + 1)).drop fr := by
                rw [take_snoc (kA_at hc), List.drop_append_of_le_length (by rw [List.length_take, kA_len]; omega)]
              rw [aset2, e3] at x2
              subst x2
              refine b_pop dX11_parts_124 rfl ?_
              first | refine b_iincN dX11_parts_125 rfl (by decide) ?_ | refine b_iinc1 dX11_parts_125 rfl (by decide) ?_
              refine b_goto (tgt := 92) dX11_parts_128 (by decide) ?_
              exact bB.locs rfl (ihf2 (j + 1) c5 _ _ _ (by omega) (by omega) (by omega) hR5 (hg.tr x3))
        exact bB.locs rfl (lp1 (en - fr + 1) fr 4 _ _ _ (by omega) (Nat.le_refl _) (by omega) (by rw [List.drop_eq_nil_of_le (by simp; omega)]; exact hR1) (by unfold gP; omega))
  obtain ⟨m1, ⟨x, y, xs, zs, m2, m3, m4, e1, e2, hle, hcap, ht, hu⟩, -, -, -⟩ := hT.nodeC hR
  rw [kA_len] at m2 hle ht hu
  show Ms g l d k n M11_parts _ μ Q
  refine Ms.of rfl rfl (Nat.le_of_ble_eq_true rfl) ?_
  first | refine b_aload_n dX11_parts_0 rfl ?_ | refine b_aload_nN dX11_parts_0 rfl ?_
  refine b_getf dX11_parts_1 f11_9 (by first | assumption | exact mset_s | exact Rep.raw (by assumption) (by assumption) | (refine (mset_n (by first | assumption | exact Ne.symm (by assumption) | exact ne_fr (by assumption) (by assumption) | exact Ne.symm (ne_fr (by assumption) (by assumption)))).trans ?_; first | assumption | exact mset_s | exact Rep.raw (by assumption) (by assumption) | (refine (mset_n (by first | assumption | exact Ne.symm (by assumption) | exact ne_fr (by assumption) (by assumption) | exact Ne.symm (ne_fr (by assumption) (by assumption)))).trans ?_; first | assumption | exact mset_s | exact Rep.raw (by assumption) (by assumption) | (refine (mset_n (by first | assumption | exact Ne.symm (by assumption) | exact ne_fr (by assumption) (by assumption) | exact Ne.symm (ne_fr (by assumption) (by assumption)))).trans ?_; first | assumption | exact mset_s | exact Rep.raw (by assumption) (by assumption) | (refine (mset_n (by first | assumption | exact Ne.symm (by assumption) | exact ne_fr (by assumption) (by assumption) | exact Ne.symm (ne_fr (by assumption) (by assumption)))).trans ?_; first | assumption | exact mset_s | exact Rep.raw (by assumption) (by assumption) | (refine (mset_n (by first | assumption | exact Ne.symm (by assumption) | exact ne_fr (by assumption) (by assumption) | exact Ne.symm (ne_fr (by assumption) (by assumption)))).trans ?_; first | assumption | exact mset_s | exact Rep.raw (by assumption) (by assumption) | (refine (mset_n (by first | assumption | exact Ne.symm (by assumption) | exact ne_fr (by assumption) (by assumption) | exact Ne.symm (ne_fr (by assumption) (by assumption)))).trans ?_; first | assumption | exact mset_s | exact Rep.raw (by assumption) (by assumption) | (refine (mset_n (by first | assumption | exact Ne.symm (by assumption) | exact ne_fr (by assumption) (by assumption) | exact Ne.symm (ne_fr (by assumption) (by assumption)))).trans ?_; assumption)))))))) rfl ?_
  refine b_getf dX11_parts_4 f11_25 (by first | assumption | exact mset_s | exact Rep.raw (by assumption) (by assumption) | (refine (mset_n (by first | assumption | exact Ne.symm (by assumption) | exact ne_fr (by assumption) (by assumption) | exact Ne.symm (ne_fr (by assumption) (by assumption)))).trans ?_; first | assumption | exact mset_s | exact Rep.raw (by assumption) (by assumption) | (refine (mset_n (by first | assumption | exact Ne.symm (by assumption) | exact ne_fr (by assumption) (by assumption) | exact Ne.symm (ne_fr (by assumption) (by assumption)))).trans ?_; first | assumption | exact mset_s | exact Rep.raw (by assumption) (by assumption) | (refine (mset_n (by first | assumption | exact Ne.symm (by assumption) | exact ne_fr (by assumption) (by assumption) | exact Ne.symm (ne_fr (by assumption) (by assumption)))).trans ?_; first | assumption | exact mset_s | exact Rep.raw (by assumption) (by assumption) | (refine (mset_n (by first | assumption | exact Ne.symm (by assumption) | exact ne_fr (by assumption) (by assumption) | exact Ne.symm (ne_fr (by assumption) (by assumption)))).trans ?_; first | assumption | exact mset_s | exact Rep.raw (by assumption) (by assumption) | (refine (mset_n (by first | assumption | exact Ne.symm (by assumption) | exact ne_fr (by assumption) (by assumption) | exact Ne.symm (ne_fr (by assumption) (by assumption)))).trans ?_; first | assumption | exact mset_s | exact Rep.raw (by assumption) (by assumption) | (refine (mset_n (by first | assumption | exact Ne.symm (by assumption) | exact ne_fr (by assumption) (by assumption) | exact Ne.symm (ne_fr (by assumption) (by assumption)))).trans ?_; first | assumption | exact mset_s | exact Rep.raw (by assumption) (by assumption) | (refine (mset_n (by first | assumption | exact Ne.symm (by assumption) | exact ne_fr (by assumption) (by assumption) | exact Ne.symm (ne_fr (by assumption) (by assumption)))).trans ?_; assumption)))))))) rfl ?_
  refine b_bipush (v := 8) dX11_parts_7 (by decide) ?_
  refine b_icmp_gt (tgt := 20) dX11_parts_9 (by decide) (fun h9 => ?_) (fun h9 => ?_)
  · first | refine b_aload_n dX11_parts_20 rfl ?_ | refine b_aload_nN dX11_parts_20 rfl ?_
    refine b_getf dX11_parts_21 f11_9 (by first | assumption | exact mset_s | exact Rep.raw (by assumption) (by assumption) | (refine (mset_n (by first | assumption | exact Ne.symm (by assumption) | exact ne_fr (by assumption) (by assumption) | exact Ne.symm (ne_fr (by assumption) (by assumption)))).trans ?_; first | assumption | exact mset_s | exact Rep.raw (by assumption) (by assumption) | (refine (mset_n (by first | assumption | exact Ne.symm (by assumption) | exact ne_fr (by assumption) (by assumption) | exact Ne.symm (ne_fr (by assumption) (by assumption)))).trans ?_; first | assumption | exact mset_s | exact Rep.raw (by assumption) (by assumption) | (refine (mset_n (by first | assumption | exact Ne.symm (by assumption) | exact ne_fr (by assumption) (by assumption) | exact Ne.symm (ne_fr (by assumption) (by assumption)))).trans ?_; first | assumption | exact mset_s | exact Rep.raw (by assumption) (by assumption) | (refine (mset_n (by first | assumption | exact Ne.symm (by assumption) | exact ne_fr (by assumption) (by assumption) | exact Ne.symm (ne_fr (by assumption) (by assumption)))).trans ?_; first | assumption | exact mset_s | exact Rep.raw (by assumption) (by assumption) | (refine (mset_n (by first | assumption | exact Ne.symm (by assumption) | exact ne_fr (by assumption) (by assumption) | exact Ne.symm (ne_fr (by assumption) (by assumption)))).trans ?_; first | assumption | exact mset_s | exact Rep.raw (by assumption) (by assumption) | (refine (mset_n (by first | assumption | exact Ne.symm (by assumption) | exact ne_fr (by assumption) (by assumption) | exact Ne.symm (ne_fr (by assumption) (by assumption)))).trans ?_; first | assumption | exact mset_s | exact Rep.raw (by assumption) (by assumption) | (refine (mset_n (by first | assumption | exact Ne.symm (by assumption) | exact ne_fr (by assumption) (by assumption) | exact Ne.symm (ne_fr (by assumption) (by assumption)))).trans ?_; assumption)))))))) rfl ?_
    refine b_getf dX11_parts_24 f11_25 (by first | assumption | exact mset_s | exact Rep.raw (by assumption) (by assumption) | (refine (mset_n (by first | assumption | exact Ne.symm (by assumption) | exact ne_fr (by assumption) (by assumption) | exact Ne.symm (ne_fr (by assumption) (by assumption)))).trans ?_; first | assumption | exact mset_s | exact Rep.raw (by assumption) (by assumption) | (refine (mset_n (by first | assumption | exact Ne.symm (by assumption) | exact ne_fr (by assumption) (by assumption) | exact Ne.symm (ne_fr (by assumption) (by assumption)))).trans ?_; first | assumption | exact mset_s | exact Rep.raw (by assumption) (by assumption) | (refine (mset_n (by first | assumption | exact Ne.symm (by assumption) | exact ne_fr (by assumption) (by assumption) | exact Ne.symm (ne_fr (by assumption) (by assumption)))).trans ?_; first | assumption | exact mset_s | exact Rep.raw (by assumption) (by assumption) | (refine (mset_n (by first | assumption | exact Ne.symm (by assumption) | exact ne_fr (by assumption) (by assumption) | exact Ne.symm (ne_fr (by assumption) (by assumption)))).trans ?_; first | assumption | exact mset_s | exact Rep.raw (by assumption) (by assumption) | (refine (mset_n (by first | assumption | exact Ne.symm (by assumption) | exact ne_fr (by assumption) (by assumption) | exact Ne.symm (ne_fr (by assumption) (by assumption)))).trans ?_; first | assumption | exact mset_s | exact Rep.raw (by assumption) (by assumption) | (refine (mset_n (by first | assumption | exact Ne.symm (by assumption) | exact ne_fr (by assumption) (by assumption) | exact Ne.symm (ne_fr (by assumption) (by assumption)))).trans ?_; first | assumption | exact mset_s | exact Rep.raw (by assumption) (by assumption) | (refine (mset_n (by first | assumption | exact Ne.symm (by assumption) | exact ne_fr (by assumption) (by assumption) | exact Ne.symm (ne_fr (by assumption) (by assumption)))).trans ?_; assumption)))))))) rfl ?_
    refine b_bipush (v := 8) dX11_parts_27 (by decide) ?_
    first | refine b_iaddK (c := 8) dX11_parts_29 (by decide) ?_ | refine b_iadd dX11_parts_29 ?_
    refine b_iconst (v := 1) dX11_parts_30 (by decide) ?_
    first | refine b_isubK (c := 1) dX11_parts_31 (by decide) (by omega) ?_ | refine b_isub dX11_parts_31 ?_
    refine b_bipush (v := nI 8) dX11_parts_32 (by decide) ?_
    refine b_idivN dX11_parts_34 (by omega) (by omega) (by omega) ?_
    have e : (ks.length + 8 - 1) / 8 = q := by rw [hq]; congr 1
    refine bB.top (v' := .int (nI q)) (by rw [e]) ?_
    refine b_istore dX11_parts_35 (by decide) ?_
    refine b_iconst (v := 0) dX11_parts_37 (by decide) ?_
    refine b_istore dX11_parts_38 (by decide) ?_
    refine bB.locs rfl (lp (q + 1) 0 cc [] α μ k n (by omega) (by omega) hR rfl (fun j c h => by cases h) (fun c h => by cases h) List.nodup_nil (fun c h => by cases h) (fun x o hx _ => hx) hca hc4 hc8 (by omega) (by rw [ksum_nil]; omega) hkn)
  · rw [show (8 : Int32) = nI 8 from rfl, nI_ltI (by omega) (by omega)] at h9
    omega
end NP2
