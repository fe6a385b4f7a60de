/-! Inner.take: numbers; one round of the loop -/
set_option maxRecDepth 100000
theorem tk_num {n n1 n2 M c1 c2 c1' c2' c2'' L S pm rm Pm Pm' G T Ps X0 Xm I Kp Kx W : Nat} (hM : 1 ≤ M) (hL : L ≤ 24) (hS : S = pm + rm) (hI : Xm + 4 * rm ≤ I) (hP : Pm' = Pm + 4 * pm)
    (h1 : (n1 = n ∧ c1' = c1 ∧ c2' = c2 ∧ G = (8 * M - 4 * c1) + (96 - 2 * c2)) ∨ (n + 8 = n1 + 4 * c1' + 2 * c2' ∧ (c1' = 4 ∨ c1' + 2 ≤ 2 * M) ∧ (c2' = 8 ∨ c2' + 2 ≤ 2 * L) ∧ G = 104 + 8 * M))
    (h2 : c2' ≤ c2'' ∧ (c2'' = c2' ∨ (c2' < L + S ∧ c2'' + 2 ≤ 2 * (L + S))) ∧ n2 + 2 * c2'' = n1 + 2 * c2') :
    n + ((8 * M - 4 * c1') + (4 * max 24 (L + S) - 2 * c2'') + T + (Ps + Pm) + (X0 + Xm) + (Kp + Kx) + W) ≤ n2 + (((G + T) + Ps + Kp) + (X0 + Kx) + (I + Pm') + W) := by
  rcases h1 with ⟨a, b, c, d⟩ | ⟨a, b, c, d⟩
  · subst a; subst b; subst c; subst d
    omega
  · subst d
    omega
theorem tk_pre {n n1 M c1 c2 c1' c2' L S pm rm Pm Pm' G T Ps X0 Xm I Kp Kx W : Nat} (hM : 1 ≤ M) (hL : L ≤ 24) (hS : S = pm + rm) (hI : Xm + 4 * rm ≤ I) (hP : Pm' = Pm + 4 * pm)
    (h1 : (n1 = n ∧ c1' = c1 ∧ c2' = c2 ∧ G = (8 * M - 4 * c1) + (96 - 2 * c2)) ∨ (n + 8 = n1 + 4 * c1' + 2 * c2' ∧ (c1' = 4 ∨ c1' + 2 ≤ 2 * M) ∧ (c2' = 8 ∨ c2' + 2 ≤ 2 * L) ∧ G = 104 + 8 * M))
    (hn : ((G + T) + Ps + Kp) + (X0 + Kx) + (I + Pm') + W ≤ n) : 4 * (L + S) ≤ n1 + 2 * c2' := by
  rcases h1 with ⟨a, b, c, d⟩ | ⟨a, b, c, d⟩
  · subst a; subst b; subst c; subst d
    omega
  · subst d
    omega
section LOP
variable {g : Cx} {l : Launch} {d : Nat}
theorem hits_pos {h : Nat} {ks : List (Kid h)} {ms : List Msg} (hp : 1 ≤ hits ms ks) : ∃ c ∈ ks, 1 ≤ hc ms c.1 c.2.1 := by
  refine Classical.byContradiction (fun hne => ?_)
  have : hits ms ks = 0 := ksum_zero (fun c hc' => by
    have : ¬ 1 ≤ hc ms c.1 c.2.1 := fun h1 => hne ⟨c, hc', h1⟩
    omega)
  omega
/-- the page the loop of take works at -/
def LpQ (g : Cx) (l : Launch) (d : Nat) (α : AM) (w : WS) (now lo hi : Int32) (dp h : Nat) (t0 : PT (h + 1)) (f : Int32 → Option Int64) (wB xB p cp cl n Θ : Nat) (Fz : Nat → Prop) (αb : AM) (wb : WS) (ks : List (Kid h)) (ls : List (Nat × Msg)) (c1 c2 B kb nb : Nat) : Prop :=
  FS Fz now lo hi dp h p cp cl αb wb ks ls c1 c2 ∧ SB α w now lo hi dp h t0 f wB xB p cp cl αb wb ks ls ∧ ls.length ≤ B ∧ 24 ≤ B ∧ n + Tht now h wb dp ks ls c1 c2 B ≤ nb + Θ ∧ Θ ≤ n ∧ nb ≤ 4 * kb
theorem LpQ.pay {α : AM} {w : WS} {now lo hi : Int32} {dp h : Nat} {t0 : PT (h + 1)} {f : Int32 → Option Int64} {wB xB p cp cl n Θ : Nat} {Fz : Nat → Prop} {αb : AM} {wb : WS} {ks : List (Kid h)} {ls : List (Nat × Msg)} {c1 c2 B kb nb : Nat} (hI : LpQ g l d α w now lo hi dp h t0 f wB xB p cp cl n Θ Fz αb wb ks ls c1 c2 B kb nb) : Tht now h wb dp ks ls c1 c2 B ≤ nb := by
  obtain ⟨-, -, -, -, h1, h2, -⟩ := hI
  generalize Tht now h wb dp ks ls c1 c2 B = T at *
  omega
/-- a round: send to the fullest -/
theorem lp_round {α : AM} {w : WS} {now lo hi : Int32} {dp h : Nat} {t0 : PT (h + 1)} {f : Int32 → Option Int64} {wB xB p cp cl n Θ : Nat} {Fz : Nat → Prop} {αb : AM} {wb : WS} {ks : List (Kid h)} {ls : List (Nat × Msg)} {c1 c2 B kb nb b : Nat} (ih : TakS g l h) (hI : LpQ g l d α w now lo hi dp h t0 f wB xB p cp cl n Θ Fz αb wb ks ls c1 c2 B kb nb) (h1 : 1 ≤ ls.length) (hb : b < ks.length) (hmax : ∀ c cb, c ∈ ks → ks[b]? = some cb → hc (ls.map (·.2)) c.1 c.2.1 ≤ hc (ls.map (·.2)) cb.1 cb.2.1) (hd : 2 * h + 7 ≤ d) :
    aMs g l d kb nb M11_send [.ref p, .int (nI b), .int now, .int hi, .ref wb.1, .int (nI dp)] αb (fun o α' k' n' => o = .returned none ∧ ∃ ks' ls' c1' c2' w' B', LpQ g l d α w now lo hi dp h t0 f wB xB p cp cl n Θ Fz α' w' ks' ls' c1' c2' B' k' n' ∧ w'.1 = wb.1 ∧ hits (ls'.map (·.2)) ks' < hits (ls.map (·.2)) ks) := by
  have hpay := hI.pay
  obtain ⟨hF, hS, hB, hB24, hbud, hΘ, hkn⟩ := hI
  obtain ⟨cb, hcb⟩ := at_of hb
  obtain ⟨A, Bk, hk, hA⟩ := split_at hcb
  have hF0 := hF
  obtain ⟨hT, hch, hwf, hls, -⟩ := hF0
  have hge := hits_ge hch (ms := ls.map (·.2)) (fun m hm => by
    obtain ⟨q, hq, rfl⟩ := List.mem_map.mp hm
    exact hls q hq)
  rw [List.length_map] at hge
  obtain ⟨c9, hc9, h9⟩ := hits_pos (Nat.le_trans h1 hge)
  have hcb1 : 1 ≤ hc (ls.map (·.2)) cb.1 cb.2.1 := Nat.le_trans h9 (hmax c9 cb hc9 hcb)
  subst hk
  refine (sp_send ih hF hA hB hpay hkn hd).mono (fun o α' k' n' _ _ hQ => ?_)
  obtain ⟨e1, ks', ls', c1', c2', w', B', e2, e3, e4, e5, e6, e7, e8⟩ := hQ
  have hbud' : n + Tht now h w' dp ks' ls' c1' c2' B' ≤ n' + Θ := by
    generalize Tht now h w' dp ks' ls' c1' c2' B' = T1 at *
    generalize Tht now h wb dp (A ++ cb :: Bk) ls c1 c2 B = T2 at *
    clear hge h9 hcb1 e8 hmax
    omega
  refine ⟨e1, ks', ls', c1', c2', w', B', ⟨e2, hS.evo e3, e4, Nat.le_trans hB24 e5, hbud', hΘ, e7⟩, e3.2.2.2.2.2.2.2.1.1, ?_⟩
  rw [← e8]
  omega
end LOP
