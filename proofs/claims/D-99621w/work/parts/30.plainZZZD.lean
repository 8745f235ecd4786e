/-! PLAIN LAW: chains and what they mean -/
set_option maxRecDepth 100000
section ZZD1
variable {τ τ' τ'' τ0 τ1 τ2 : CS} {X n a o z : Nat} {B : Nat → Nat}
/-- an empty chain -/
theorem C_chNew (hc : 5 ≤ grc τ.1) (hs : 27 ≤ grs τ.1) : ∃ τ1 τ2, aNew 8 τ = some (gz τ.1, τ1) ∧ f_a_X9_init (gz τ.1) τ1 = some τ2 ∧ ChI τ2.1 τ2.2 (gz τ.1) (gz τ.1 + 1) (gz τ.1 + 2) (gz τ.1 + 3) (gz τ.1 + 4) 0 (fun _ => 0) (fun _ => 0) ∧ gz τ2.1 = gz τ.1 + 5 ∧ STz (gz τ.1) τ τ2 ∧ grc τ2.1 = grc τ.1 - 5 ∧ grs τ2.1 = grs τ.1 - 27 ∧ gN τ2.1 (gz τ.1 + 2) = 2 ∧ gN τ2.1 (gz τ.1 + 4) = 16 := by
  obtain ⟨g, c⟩ := τ
  dsimp only at *
  generalize hz : gz g = z at *
  have e1 := aNew_ok (t := 8) (τ := (g, c)) (by dsimp only; omega) (by dsimp only; show 2 ≤ _; omega)
  rw [show kN 8 = 2 from rfl] at e1
  dsimp only at e1
  rw [hz] at e1
  have z1 : gz (nG g 8 0 2) = z + 1 := by rw [nG_z, hz]
  have t1 : gT (nG g 8 0 2) z = 8 := by rw [nG_T, hz, if_pos rfl]
  have c1 : grc (nG g 8 0 2) = grc g - 1 := nG_c
  have s1 : grs (nG g 8 0 2) = grs g - 2 := nG_s
  obtain ⟨τa, τb, ea, eb, hA, zb, stb, cb, sb, nb⟩ := C_listNew (τ := (nG g 8 0 2, zC c z)) (by dsimp only; omega) (by dsimp only; omega)
  dsimp only at ea eb hA zb stb cb sb nb
  rw [z1] at ea eb hA zb stb nb
  have tb : gT τb.1 z = 8 := by rw [(stb.2.1 z (by omega) (by omega)).1]; exact t1
  obtain ⟨τd, τe, ed, ee, hS, ze, ste, ce, se, ne⟩ := C_sbNew (τ := (vR τb.1 800 z (some (z + 1)), τb.2)) (by show 2 ≤ grc τb.1; omega) (by show 20 ≤ grs τb.1; omega)
  have zc : gz (vR τb.1 800 z (some (z + 1))) = z + 3 := zb
  dsimp only at ed ee hS ze ste ce se ne
  rw [zc] at ed ee hS ze ste ne
  have te : gT τe.1 z = 8 := by rw [(ste.2.1 z (by omega) (by omega)).1]; exact tb
  have re : gR τe.1 800 z = some (z + 1) := by
    rw [(ste.2.1 z (by omega) (by omega)).2.2.1]
    show gR (vR τb.1 800 z _) 800 z = _
    rw [vR_R, if_pos ⟨rfl, rfl⟩]
  have gte : ∀ b, b < z + 3 → gT τe.1 b = gT τb.1 b ∧ gN τe.1 b = gN τb.1 b := fun b hb => ⟨(ste.2.1 b (by omega) hb).1, (ste.2.1 b (by omega) hb).2.1⟩
  refine ⟨_, (vR τe.1 801 z (some (z + 3)), τe.2), e1, ?_, ⟨te, ?_, ?_, ALs.of hA (gte _ (by omega)).1 (gte _ (by omega)) (fun i hi => absurd hi (Nat.not_lt_zero i)) (ste.2.2 _ (by omega)) (ste.2.2 _ (by omega)), SBs.of hS rfl ⟨rfl, rfl⟩ (Eq1.refl _ _) (Eq1.refl _ _)⟩, ze, ⟨?_, fun a _ ha => ⟨?_, ?_, fun k => ?_, fun i => ?_⟩, fun a ha => ?_⟩, ?_, ?_, ?_, ne⟩
  · unfold f_a_X9_init f_a_X8_init
    rw [Option.bind_some, ea, xbd_some, eb, Option.bind_some, if_pos tb, ed, xbd_some, ee, Option.bind_some, if_pos te]
  · show gR (vR τe.1 801 z _) 800 z = _
    rw [vR_R, if_neg (by omega)]; exact re
  · show gR (vR τe.1 801 z _) 801 z = _
    rw [vR_R, if_pos ⟨rfl, rfl⟩]
  · show gz g ≤ gz τe.1
    rw [ze, hz]; omega
  · show gT τe.1 a = gT g a
    rw [(gte a (by omega)).1, (stb.2.1 a (by omega) (by omega)).1]
    show gT (nG _ _ _ _) a = _
    rw [nG_T, hz, if_neg (by omega)]
  · show gN τe.1 a = gN g a
    rw [(gte a (by omega)).2, (stb.2.1 a (by omega) (by omega)).2.1]
    show gN (nG _ _ _ _) a = _
    rw [nG_N, hz, if_neg (by omega)]
  · show gR (vR τe.1 801 z _) k a = gR g k a
    rw [vR_R, if_neg (by omega), (ste.2.1 a (by omega) (by omega)).2.2.1]
    show gR (vR τb.1 800 z _) k a = _
    rw [vR_R, if_neg (by omega), (stb.2.1 a (by omega) (by omega)).2.2.1]
    show gR (nG _ _ _ _) k a = _
    rw [nG_R, hz, if_neg (by omega)]
  · show gA τe.1 a i = gA g a i
    rw [(ste.2.1 a (by omega) (by omega)).2.2.2]
    show gA τb.1 a i = _
    rw [(stb.2.1 a (by omega) (by omega)).2.2.2]; rfl
  · exact ((zC_e (by omega)).trans (stb.2.2 a (by omega))).trans (ste.2.2 a (by omega))
  · show grc τe.1 = _
    rw [ce]; show grc τb.1 - 2 = _; omega
  · show grs τe.1 = _
    rw [se]; show grs τb.1 - 20 = _; omega
  · show gN τe.1 (z + 2) = 2
    rw [(gte _ (by omega)).2]; exact nb
/-- a chain grows -/
theorem C_chAdd {e l arr s ba k x y : Nat} {ad sg : Nat → Nat} (h : ChI τ.1 τ.2 e l arr s ba k ad sg) (hk : k < 1000) (he : e < gz τ.1) (hl : l < gz τ.1) (ha : arr < gz τ.1) (hs1 : s < gz τ.1) (hb1 : ba < gz τ.1) (had : ∀ i, i < k → ad i < gz τ.1) (hx : okO (gK τ.1 x) = true) (hx2 : x < gz τ.1) (hy : y < 128) (hc : 2 ≤ grc τ.1) (hs : 6 * k + 60 ≤ grs τ.1) :
    OK (f_a_X9_add e (nI y) x τ) (fun τ' => ∃ arr' ba', ChI τ'.1 τ'.2 e l arr' s ba' (k + 1) (updN ad k x) (updN sg k y) ∧ gz τ.1 ≤ gz τ'.1 ∧ (arr' = arr ∨ gz τ.1 ≤ arr') ∧ arr' < gz τ'.1 ∧ (ba' = ba ∨ gz τ.1 ≤ ba') ∧ ba' < gz τ'.1 ∧ AgG 0 (gz τ.1) τ.1 τ'.1 ∧ (∀ a, a < gz τ.1 → a ≠ l → a ≠ arr → a ≠ s → a ≠ ba → Eq1 τ.2 τ'.2 a) ∧ grc τ.1 ≤ grc τ'.1 + 2 ∧ grs τ.1 + 4 * gN τ.1 arr + 2 * gN τ.1 ba ≤ grs τ'.1 + 4 * gN τ'.1 arr' + 2 * gN τ'.1 ba') := by
  obtain ⟨h1, h2, h3, h4, h5⟩ := h
  have gl := h4.1
  have ga := h4.2.2.2.1
  have gs := h5.1
  have gb := h5.2.2.2.1
  have d1 : l ≠ s := fun q => by rw [q, gs] at gl; omega
  have d2 : l ≠ ba := fun q => by rw [q, gb] at gl; omega
  have d3 : arr ≠ s := fun q => by rw [q, gs] at ga; omega
  have d4 : arr ≠ ba := fun q => by rw [q, gb] at ga; omega
  have hb16 := h5.2.2.2.2.2.2.1
  have ha16 := h4.2.2.2.2.2.2.1
  obtain ⟨⟨r1, τ1⟩, e1, ba', b1, b2, b3, b4, b5, b6⟩ := C_sbAdd (y := y) h5 hk hs1 hb1 hy (by omega) (by omega)
  dsimp only at b1 b2 b3 b4 b5 b6
  have hz1 : gz τ.1 ≤ gz τ1.1 := by rcases b2 with ⟨-, q⟩ | ⟨-, q⟩ <;> omega
  have hba' : ba' < gz τ1.1 := by rcases b2 with ⟨q1, q2⟩ | ⟨q1, q2⟩ <;> omega
  have hgN : gN τ1.1 ba' ≤ 2 * (k + 1) + 16 := b1.2.2.2.2.2.2.1
  have hbN : 16 ≤ gN τ.1 ba := h5.2.2.2.2.2.1
  have hA1 : ALs τ1.1 τ1.2 l arr k ad := h4.of (b3 l (by omega) hl).1 ⟨(b3 arr (by omega) ha).1, (b3 arr (by omega) ha).2.1⟩ (fun i hi => (b3 _ (by omega) (had i hi)).1) (b4 l hl d1 d2) (b4 arr ha d3 d4)
  have hgK : gK τ1.1 x = gK τ.1 x := by
    show gT τ1.1 x % 1000 = gT τ.1 x % 1000
    rw [(b3 x (by omega) hx2).1]
  obtain ⟨⟨r2, τ2⟩, e2, arr', a1, a2, a3, a4, a5, a6⟩ := C_listAdd (x := x) hA1 hk (by omega) (by omega) (fun i hi => by have := had i hi; omega) (by rw [hgK]; exact hx) (by omega) (by omega) (by omega)
  dsimp only at a1 a2 a3 a4 a5 a6
  have hz2 : gz τ1.1 ≤ gz τ2.1 := by rcases a2 with ⟨-, q⟩ | ⟨-, q⟩ <;> omega
  have harr' : arr' < gz τ2.1 := by rcases a2 with ⟨q1, q2⟩ | ⟨q1, q2⟩ <;> omega
  have te : gT τ1.1 e = 8 := by rw [(b3 e (by omega) he).1]; exact h1
  have te2 : gR τ1.1 800 e = some l := by rw [(b3 e (by omega) he).2.2.1]; exact h2
  have gb1 := b1.2.2.2.1
  have gs1 := b1.1
  have d5 : s ≠ l := fun q => d1 q.symm
  have d6 : s ≠ arr := fun q => d3 q.symm
  have d7 : ba' ≠ l := fun q => by rw [q, hA1.1] at gb1; omega
  have d8 : ba' ≠ arr := fun q => by rw [q, hA1.2.2.2.1] at gb1; omega
  have hS2 : SBs τ2.1 τ2.2 s ba' (k + 1) (updN sg k y) := b1.of (a3 s (by omega) (by omega)).1 ⟨(a3 ba' (by omega) hba').1, (a3 ba' (by omega) hba').2.1⟩ (a4 s (by omega) d5 d6) (a4 ba' hba' d7 d8)
  unfold f_a_X9_add
  rw [if_pos h1, h3, Option.bind_some, if_pos gs, e1, xbd_some, if_pos te, te2, Option.bind_some, if_pos hA1.1, e2, xbd_some]
  refine OK_some ⟨arr', ba', ⟨by rw [(a3 e (by omega) (by omega)).1]; exact te, by rw [(a3 e (by omega) (by omega)).2.2.1]; exact te2, by rw [(a3 e (by omega) (by omega)).2.2.1, (b3 e (by omega) he).2.2.1]; exact h3, a1, hS2⟩, by omega, by rcases a2 with ⟨q1, -⟩ | ⟨q1, -⟩ <;> omega, harr', by rcases b2 with ⟨q1, -⟩ | ⟨q1, -⟩ <;> omega, by omega, fun b b1 b2 => ?_, fun b c1 c2 c3 c4 c5 => (b4 b c1 c4 c5).trans (a4 b (by omega) c2 c3), by omega, ?_⟩
  · have q1 := b3 b b1 b2
    have q2 := a3 b b1 (by omega)
    exact ⟨q2.1.trans q1.1, q2.2.1.trans q1.2.1, fun k => (q2.2.2.1 k).trans (q1.2.2.1 k), fun i => (q2.2.2.2 i).trans (q1.2.2.2 i)⟩
  · have q1 := (b3 arr (by omega) ha).2.1
    have q2 := (a3 ba' (by omega) hba').2.1
    omega
end ZZD1
/-! meaning -/
abbrev GV : Type := (Nat → Int64) → (Nat → Int64 → Int64) → Int64
/-- what is looked up, as the component does -/
def LKc (g : CG) (c : CC) (X : Nat) (lk : Nat → Int64 → Int64) : Prop := ∀ j, j < 2 → ∀ n : Int64, ∃ u, f_c_X0_looked g X (nI j) n c = some (u, c) ∧ lk j n = clip u
def SemG (cs : List Nat) (G : GV) : Prop := ∀ env lk p, run env lk cs p = some (G env lk :: p)
def BdG (G : GV) : Prop := ∀ env lk, (∀ k, bdd (env k)) → (∀ j, j < 2 → ∀ n, bdd (lk j n)) → bdd (G env lk)
def MO (g : CG) (m arr : Nat) : Prop := gT g m = 5 ∧ gR g 500 m = some arr ∧ gT g arr = 101 ∧ gN g arr = 18
/-- a value, by what lies from lo up to hi -/
def VX (kx X h lo hi : Nat) (g : CG) (c : CC) (e : Nat) (G : GV) : Prop := ∀ g' c', AgG lo hi g g' → AgC lo hi c c' → (kx = 2 → gT g' X = 1) → ∀ m arr, MO g' m arr → ∀ lk, (kx = 2 → LKc g' c' X lk) → (∀ j, j < 2 → ∀ n, bdd (lk j n)) → ∀ d, h ≤ d → d_at d e m g' c' = some (G (fun k => clip (cM c' arr k)) lk, c')
def okX (kx : Nat) (cs : List Nat) : Prop := ∀ k ∈ cs, k < 14 ∨ (40 ≤ k ∧ k < 58 ∧ alw kx (k - 40) = true) ∨ (kx = 2 ∧ 60 ≤ k ∧ k < 62) ∨ (1000 ≤ k ∧ k < 11000)
def VAL (kx X h lo hi : Nat) (g : CG) (c : CC) (e : Nat) (cs : List Nat) : Prop := isV (gK g e) = true ∧ lo ≤ e ∧ e < hi ∧ ∃ G, SemG cs G ∧ BdG G ∧ okX kx cs ∧ VX kx X h lo hi g c e G
/-- a chain with its parts -/
def CHn (kx X h lo hi : Nat) (g : CG) (c : CC) (e arr ba k : Nat) (acc : List Nat) : Prop := ∃ l s ad sg, ChI g c e l arr s ba k ad sg ∧ (lo ≤ e ∧ e < hi) ∧ (lo ≤ l ∧ l < hi) ∧ (lo ≤ arr ∧ arr < hi) ∧ (lo ≤ s ∧ s < hi) ∧ (lo ≤ ba ∧ ba < hi) ∧ (∀ i, 0 < i → i < k → sgOk (sg i)) ∧ (0 < k → okX kx acc) ∧
  ∃ (slo shi : Nat → Nat) (Gs : Nat → GV), (∀ i, i < k → lo ≤ slo i ∧ shi i ≤ hi ∧ slo i ≤ ad i ∧ ad i < shi i ∧ (∀ y, (y = e ∨ y = l ∨ y = arr ∨ y = s ∨ y = ba) → ¬ (slo i ≤ y ∧ y < shi i)) ∧ isV (gK g (ad i)) = true ∧ VX kx X h (slo i) (shi i) g c (ad i) (Gs i)) ∧ (∀ i, BdG (Gs i)) ∧ (0 < k → SemG acc (fun env lk => chV sg (fun i => Gs i env lk) (k - 1)))
section ZZD2
variable {g g' : CG} {c c' : CC} {kx X h lo hi e arr ba k : Nat} {acc cs : List Nat} {G : GV} {τ τ' : CS}
theorem VX.of (v : VX kx X h lo hi g c e G) (hg : AgG lo hi g g') (hc : AgC lo hi c c') : VX kx X h lo hi g' c' e G := fun g2 c2 h1 h2 => v g2 c2 (hg.trans h1) (fun a a1 a2 => (hc a a1 a2).trans (h2 a a1 a2))
theorem VX.up {h2 lo2 hi2 : Nat} (v : VX kx X h lo hi g c e G) (hh : h ≤ h2) (hl : lo2 ≤ lo) (hi' : hi ≤ hi2) : VX kx X h2 lo2 hi2 g c e G := fun g2 c2 h1 h2 h3 m a h4 lk h5 h6 d h7 => v g2 c2 (fun a a1 a2 => h1 a (by omega) (by omega)) (fun a a1 a2 => h2 a (by omega) (by omega)) h3 m a h4 lk h5 h6 d (by omega)
theorem VAL.of (v : VAL kx X h lo hi g c e cs) (hg : AgG lo hi g g') (hc : AgC lo hi c c') : VAL kx X h lo hi g' c' e cs := by
  obtain ⟨v1, v2, v3, G, v4, v5, v6, v7⟩ := v
  refine ⟨?_, v2, v3, G, v4, v5, v6, v7.of hg hc⟩
  show isV (gT g' e % 1000) = true
  rw [(hg e v2 v3).1]; exact v1
theorem VAL.up {h2 lo2 hi2 : Nat} (v : VAL kx X h lo hi g c e cs) (hh : h ≤ h2) (hl : lo2 ≤ lo) (hi' : hi ≤ hi2) : VAL kx X h2 lo2 hi2 g c e cs := by
  obtain ⟨v1, v2, v3, G, v4, v5, v6, v7⟩ := v
  exact ⟨v1, by omega, by omega, G, v4, v5, v6, v7.up hh hl hi'⟩
theorem PF.ag (p : PF X τ τ') (hl : X + 30 ≤ lo) (hh : hi ≤ gz τ.1) : AgG lo hi τ.1 τ'.1 ∧ AgC lo hi τ.2 τ'.2 := ⟨fun a a1 a2 => p.2.1 a (by omega) (by omega), fun a a1 a2 => p.2.2.1 a (by omega) (by omega) (by omega)⟩
theorem CHn.of (v : CHn kx X h lo hi g c e arr ba k acc) (hg : AgG lo hi g g') (hc : AgC lo hi c c') : CHn kx X h lo hi g' c' e arr ba k acc := by
  obtain ⟨l, s, ad, sg, ⟨i1, i2, i3, i4, i5⟩, b1, b2, b3, b4, b5, b6, b7, slo, shi, Gs, b8, b9, b10⟩ := v
  refine ⟨l, s, ad, sg, ⟨by rw [(hg e b1.1 b1.2).1]; exact i1, by rw [(hg e b1.1 b1.2).2.2.1]; exact i2, by rw [(hg e b1.1 b1.2).2.2.1]; exact i3, i4.of (hg l b2.1 b2.2).1 ⟨(hg arr b3.1 b3.2).1, (hg arr b3.1 b3.2).2.1⟩ (fun i hi => ?_) (hc l b2.1 b2.2) (hc arr b3.1 b3.2), i5.of (hg s b4.1 b4.2).1 ⟨(hg ba b5.1 b5.2).1, (hg ba b5.1 b5.2).2.1⟩ (hc s b4.1 b4.2) (hc ba b5.1 b5.2)⟩, b1, b2, b3, b4, b5, b6, b7, slo, shi, Gs, fun i hi => ?_, b9, b10⟩
  · obtain ⟨q1, q2, q3, q4, -⟩ := b8 i hi
    exact (hg _ (by omega) (by omega)).1
  · obtain ⟨q1, q2, q3, q4, q5, q6, q7⟩ := b8 i hi
    refine ⟨q1, q2, q3, q4, q5, ?_, q7.of (fun a a1 a2 => hg a (by omega) (by omega)) (fun a a1 a2 => hc a (by omega) (by omega))⟩
    show isV (gT g' (ad i) % 1000) = true
    rw [(hg _ (by omega) (by omega)).1]; exact q6
theorem chV_congr {sg sg' : Nat → Nat} {V V' : Nat → Int64} : ∀ j, (∀ i, i ≤ j → sg i = sg' i ∧ V i = V' i) → chV sg V j = chV sg' V' j
  | 0, h => (h 0 (Nat.le_refl _)).2
  | j + 1, h => by
    show join (sgC (sg (j + 1))) (chV sg V j) (V (j + 1)) = join (sgC (sg' (j + 1))) (chV sg' V' j) (V' (j + 1))
    rw [(h (j + 1) (Nat.le_refl _)).1, (h (j + 1) (Nat.le_refl _)).2, chV_congr j (fun i hi => h i (by omega))]
theorem run_op {env : Nat → Int64} {lk : Nat → Int64 → Int64} {op : Nat} {u v : Int64} {p : List Int64} (h : op < 12) : run env lk [op] (v :: u :: p) = some (join op u v :: p) := by
  show (run1 env lk op (v :: u :: p)).bind (run env lk []) = _
  unfold run1
  rw [if_neg (by omega), if_neg (by omega), if_neg (by omega), if_neg (by omega), if_neg (by omega)]
  rfl
theorem sgC_b (s : Nat) : 1 ≤ sgC s ∧ sgC s ≤ 4 := by
  unfold sgC
  split
  · omega
  · split
    · omega
    · split <;> omega
theorem isV_ok {t : Nat} (h : isV t = true) : okO t = true := by
  unfold isV at h
  simp only [Bool.or_eq_true, beq_iff_eq] at h
  rcases h with (((h | h) | h) | h) | h <;> subst h <;> decide
def updG (Gs : Nat → GV) (k : Nat) (G : GV) (i : Nat) : GV := if i = k then G else Gs i
/-- a chain with one part more -/
theorem CHn.add {y e2 z0 z1 : Nat} {acc' : List Nat} (v : CHn kx X h lo hi τ.1 τ.2 e arr ba k acc) (w : VAL kx X h z0 z1 τ.1 τ.2 e2 cs) (hz0 : hi ≤ z0) (hz1 : z1 ≤ gz τ.1) (hlo : lo ≤ hi) (hy : sgOk y) (hk : k < 1000) (hc : 2 ≤ grc τ.1) (hs : 6 * k + 60 ≤ grs τ.1) (ha0 : k = 0 → acc' = cs) (ha1 : 0 < k → acc' = acc ++ cs ++ [sgC y]) :
    OK (f_a_X9_add e (nI y) e2 τ) (fun τ' => ∃ arr' ba', CHn kx X h lo (gz τ'.1) τ'.1 τ'.2 e arr' ba' (k + 1) acc' ∧ STz lo τ τ' ∧ AgG 0 (gz τ.1) τ.1 τ'.1 ∧ grc τ.1 ≤ grc τ'.1 + 2 ∧ grs τ.1 + 4 * gN τ.1 arr + 2 * gN τ.1 ba ≤ grs τ'.1 + 4 * gN τ'.1 arr' + 2 * gN τ'.1 ba') := by
  obtain ⟨l, s, ad, sg, hI, b1, b2, b3, b4, b5, b6, b7, slo, shi, Gs, b8, b9, b10⟩ := v
  obtain ⟨w1, w2, w3, G, w4, w5, w6, w7⟩ := w
  have hy2 : y < 128 := by rcases hy with e | e | e | e <;> omega
  have had : ∀ i, i < k → ad i < gz τ.1 := fun i hi => by
    obtain ⟨q1, q2, q3, q4, -⟩ := b8 i hi
    omega
  obtain ⟨τ', e1, arr', ba', c1, c2, c3, c4, c5, c6, c7, c8, c9, c10⟩ := C_chAdd (x := e2) (y := y) hI hk (by omega) (by omega) (by omega) (by omega) (by omega) had (isV_ok w1) (by omega) hy2 hc hs
  refine ⟨τ', e1, arr', ba', ⟨l, s, updN ad k e2, updN sg k y, c1, ⟨b1.1, by omega⟩, ⟨b2.1, by omega⟩, ⟨by omega, c4⟩, ⟨b4.1, by omega⟩, ⟨by omega, c6⟩, fun i h0 h1 => ?_, fun _ => ?_, updN slo k z0, updN shi k z1, updG Gs k G, fun i hi => ?_, fun i => ?_, fun _ env lk p => ?_⟩, ⟨c2, fun a a0 a1 => c7 a a0 (by omega), fun a ha => c8 a (by omega) (by omega) (by omega) (by omega) (by omega)⟩, c7, c9, c10⟩
  · unfold updN
    by_cases ei : i = k
    · rw [if_pos ei]; exact hy
    · rw [if_neg ei]; exact b6 i h0 (by omega)
  · by_cases k0 : k = 0
    · rw [ha0 k0]; exact w6
    · rw [ha1 (by omega)]
      intro u hu
      simp only [List.mem_append, List.mem_singleton] at hu
      rcases hu with (hu | hu) | hu
      · exact b7 (by omega) u hu
      · exact w6 u hu
      · have := sgC_b y
        exact Or.inl (by omega)
  · unfold updN updG
    by_cases ei : i = k
    · rw [if_pos ei, if_pos ei, if_pos ei, if_pos ei]
      refine ⟨by omega, by omega, by omega, by omega, fun u hu => by omega, ?_, w7.of (fun a a1 a2 => c7 a (by omega) (by omega)) (fun a a1 a2 => c8 a (by omega) (by omega) (by omega) (by omega) (by omega))⟩
      show isV (gT τ'.1 e2 % 1000) = true
      rw [(c7 e2 (by omega) (by omega)).1]; exact w1
    · rw [if_neg ei, if_neg ei, if_neg ei, if_neg ei]
      obtain ⟨q1, q2, q3, q4, q5, q6, q7⟩ := b8 i (by omega)
      have n2 := q5 l (by omega)
      have n3 := q5 arr (by omega)
      have n4 := q5 s (by omega)
      have n5 := q5 ba (by omega)
      refine ⟨q1, by omega, q3, q4, fun u hu => ?_, ?_, q7.of (fun a a1 a2 => c7 a (by omega) (by omega)) (fun a a1 a2 => c8 a (by omega) (fun z => by omega) (fun z => by omega) (fun z => by omega) (fun z => by omega))⟩
      · have n1 := q5 e (by omega)
        rcases hu with hu | hu | hu | hu | hu
        · omega
        · omega
        · omega
        · omega
        · omega
      · show isV (gT τ'.1 (ad i) % 1000) = true
        rw [(c7 (ad i) (by omega) (by omega)).1]; exact q6
  · unfold updG
    split
    · exact w5
    · exact b9 i
  · rw [Nat.add_sub_cancel]
    by_cases k0 : k = 0
    · subst k0
      rw [ha0 rfl, w4 env lk p]
      rfl
    · obtain ⟨j, rfl⟩ : ∃ j, k = j + 1 := ⟨k - 1, by omega⟩
      have := sgC_b y
      rw [ha1 (by omega), run_append, run_append, b10 (by omega) env lk p, Option.bind_some, w4 env lk, Option.bind_some, run_op (by omega)]
      congr 2
      show _ = join (sgC (updN sg (j + 1) y (j + 1))) (chV (updN sg (j + 1) y) (fun i => updG Gs (j + 1) G i env lk) j) (updG Gs (j + 1) G (j + 1) env lk)
      have x1 : updN sg (j + 1) y (j + 1) = y := if_pos rfl
      have x2 : updG Gs (j + 1) G (j + 1) = G := if_pos rfl
      rw [x1, x2]
      have x3 : chV (updN sg (j + 1) y) (fun i => updG Gs (j + 1) G i env lk) j = chV sg (fun i => Gs i env lk) j := by
        refine chV_congr j (fun i hi => ?_)
        have y1 : updN sg (j + 1) y i = sg i := if_neg (by omega)
        have y2 : updG Gs (j + 1) G i = Gs i := if_neg (by omega)
        exact ⟨y1, by rw [y2]⟩
      rw [x3]; rfl
/-- a chain that stands is a value -/
theorem CHn.val (v : CHn kx X h lo hi g c e arr ba k acc) (hk0 : 0 < k) (hk : k < 1000) : VAL kx X (h + 1) lo hi g c e acc := by
  have v0 := v
  obtain ⟨l, s, ad, sg, hI, b1, b2, b3, b4, b5, b6, b7, slo, shi, Gs, b8, b9, b10⟩ := v
  have hke : ∀ g' : CG, gT g' e = 8 → gK g' e = 8 := fun g' q => by show gT g' e % 1000 = 8; rw [q]
  refine ⟨by rw [hke g hI.1]; rfl, b1.1, b1.2, _, b10 hk0, fun env lk h1 h2 => chV_bdd (fun i => b9 i env lk h1 h2) _, b7 hk0, ?_⟩
  intro g' c' hg hc hX m arr2 hm lk hl hlb d hd
  obtain ⟨d', rfl⟩ : ∃ d', d = d' + 1 := ⟨d - 1, by omega⟩
  have hI2 : ChI g' c' e l arr s ba k ad sg := by
    obtain ⟨i1, i2, i3, i4, i5⟩ := hI
    refine ⟨by rw [(hg e b1.1 b1.2).1]; exact i1, by rw [(hg e b1.1 b1.2).2.2.1]; exact i2, by rw [(hg e b1.1 b1.2).2.2.1]; exact i3, i4.of (hg l b2.1 b2.2).1 ⟨(hg arr b3.1 b3.2).1, (hg arr b3.1 b3.2).2.1⟩ (fun i hi => ?_) (hc l b2.1 b2.2) (hc arr b3.1 b3.2), i5.of (hg s b4.1 b4.2).1 ⟨(hg ba b5.1 b5.2).1, (hg ba b5.1 b5.2).2.1⟩ (hc s b4.1 b4.2) (hc ba b5.1 b5.2)⟩
    obtain ⟨q1, q2, q3, q4, -⟩ := b8 i hi
    exact (hg _ (by omega) (by omega)).1
  have k8 := hke g' hI2.1
  show (if gK g' e = 10 then _ else if gK g' e = 11 then _ else if gK g' e = 9 then _ else if gK g' e = 8 then f_c_X9_at g' (d_at d') e m c' else _) = _
  rw [if_neg (by omega), if_neg (by omega), if_neg (by omega), if_pos k8]
  refine C_chainAt (V := fun i => Gs i (fun k => clip (cM c' arr2 k)) lk) hI2 hk hk0 b6 (fun i hi => ?_) (fun i => b9 i _ _ (fun k => clip_bdd _) hlb)
  obtain ⟨q1, q2, q3, q4, q5, q6, q7⟩ := b8 i hi
  refine ⟨?_, q7 g' c' (fun a a1 a2 => hg a (by omega) (by omega)) (fun a a1 a2 => hc a (by omega) (by omega)) hX m arr2 hm lk hl hlb d' (by omega)⟩
  show isV (gT g' (ad i) % 1000) = true
  rw [(hg _ (by omega) (by omega)).1]; exact q6
theorem CHn.cap (v : CHn kx X h lo hi g c e arr ba k acc) : gN g arr ≤ 2 * k + 2 ∧ gN g ba ≤ 2 * k + 16 ∧ gT g e = 8 := by
  obtain ⟨l, s, ad, sg, hI, -⟩ := v
  exact ⟨hI.2.2.2.1.2.2.2.2.2.2.1, hI.2.2.2.2.2.2.2.2.2.2.1, hI.1⟩
end ZZD2
