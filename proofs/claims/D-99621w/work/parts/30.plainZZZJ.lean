/-! PLAIN LAW: tests of the component: what they mean, rows of facts -/
set_option maxRecDepth 100000
abbrev HV : Type := (Nat → Int64) → (Nat → Int64 → Int64) → Bool
def bV (b : Bool) : Int64 := if b = true then 1 else 0
/-- a test, by what lies from lo up to hi -/
def TXX (kx X h lo hi : Nat) (g : CG) (c : CC) (e : Nat) (H : HV) : Prop := ∀ g' c', AgG lo hi g g' → AgC lo hi c c' → (kx = 2 → gT g' X = 1) → ∀ m arr, MO g' m arr → ∀ lk, (kx = 2 → LKc g' c' X lk) → (∀ j, j < 2 → ∀ n, bdd (lk j n)) → ∀ d, h ≤ d → d_ho d e m g' c' = some (b32 (H (fun k => clip (cM c' arr k)) lk), c')
def TVAL (kx X h lo hi : Nat) (g : CG) (c : CC) (e : Nat) (cs : List Nat) : Prop := isT (gK g e) = true ∧ lo ≤ e ∧ e < hi ∧ ∃ H : HV, SemG cs (fun env lk => bV (H env lk)) ∧ okX kx cs ∧ TXX kx X h lo hi g c e H
/-- all of them, or one -/
def fcV (all : Bool) (V : Nat → Bool) : Nat → Bool
  | 0 => V 0
  | j + 1 => if all = true then fcV all V j && V (j + 1) else fcV all V j || V (j + 1)
theorem fcV_all {all : Bool} {V : Nat → Bool} : ∀ j, (∀ i, i ≤ j → V i = all) → fcV all V j = all
  | 0, h => h 0 (Nat.le_refl _)
  | j + 1, h => by
    show (if all = true then fcV all V j && V (j + 1) else fcV all V j || V (j + 1)) = all
    rw [fcV_all j (fun i hi => h i (by omega)), h (j + 1) (Nat.le_refl _)]
    cases all <;> rfl
theorem fcV_ex {all : Bool} {V : Nat → Bool} : ∀ j i, i ≤ j → V i ≠ all → fcV all V j = !all
  | 0, i, hi, h => by
    have e : i = 0 := by omega
    subst e
    show V 0 = !all
    cases all <;> cases hv : V 0 <;> simp_all
  | j + 1, i, hi, h => by
    show (if all = true then fcV all V j && V (j + 1) else fcV all V j || V (j + 1)) = !all
    by_cases e : i = j + 1
    · subst e
      cases all <;> cases hv : V (j + 1) <;> simp_all
    · rw [fcV_ex j i (by omega) h]
      cases all <;> rfl
theorem fcV_congr {all : Bool} {V V' : Nat → Bool} : ∀ j, (∀ i, i ≤ j → V i = V' i) → fcV all V j = fcV all V' j
  | 0, h => h 0 (Nat.le_refl _)
  | j + 1, h => by
    show (if all = true then fcV all V j && V (j + 1) else fcV all V j || V (j + 1)) = (if all = true then fcV all V' j && V' (j + 1) else fcV all V' j || V' (j + 1))
    rw [fcV_congr j (fun i hi => h i (by omega)), h (j + 1) (Nat.le_refl _)]
theorem b32_inj {a b : Bool} : b32 a = b32 b ↔ a = b := by cases a <;> cases b <;> decide
section ZZJ1
variable {g g' : CG} {c c' : CC} {kx X h lo hi e arr k l m : Nat} {acc cs : List Nat} {ad : Nat → Nat} {τ τ' : CS} {all : Bool}
theorem C_factsHo {ho_ : Nat → Nat → CG → CC → Option (Int32 × CC)} {V : Nat → Bool} (h1 : gT g e = 13) (h2 : gR g 1300 e = some l) (h3 : cI c 1301 e = b32 all) (h4 : ALs g c l arr k ad) (hk : k < 1000) (hk0 : 0 < k) (hV : ∀ i, i < k → isT (gK g (ad i)) = true ∧ ho_ (ad i) m g c = some (b32 (V i), c)) : f_c_X15_holds g ho_ e m c = some (b32 (fcV all V (k - 1)), c) := by
  have key : OK (itr (fun s_ : Int32 × CC => Bc_X15_holds_2 g ho_ e m s_.1 s_.2) 4096 (nI 0, c)) (fun w => (w = .inr (b32 all, c) ∧ fcV all V (k - 1) = all) ∨ (w = .inl c ∧ fcV all V (k - 1) = !all)) := by
    refine itr_for (fun i st => st = (nI i, c) ∧ ∀ j, j < i → V j = all) _ 0 k ?_ ?_ (by omega) (by omega) ⟨rfl, fun j hj => absurd hj (Nat.not_lt_zero j)⟩
    · rintro i st - hi ⟨rfl, hj⟩
      obtain ⟨v1, v2⟩ := hV i hi
      show OK (Bc_X15_holds_2 g ho_ e m (nI i) c) _
      unfold Bc_X15_holds_2
      rw [if_pos h1, h2, Option.bind_some, if_pos h4.1, C_lsize h4, xbd_some, if_neg (by rw [nI_leI (by omega) (by omega)]; omega), C_lget h4 (by omega) hi, xbd_some, if_pos v1, v2, xbd_some, h3, nl_1, nI_add]
      by_cases e2 : V i = all
      · rw [if_pos (b32_inj.mpr e2)]
        refine OK_some (Or.inl ⟨_, rfl, rfl, fun j hj2 => ?_⟩)
        by_cases ej : j = i
        · rw [ej]; exact e2
        · exact hj j (by omega)
      · rw [if_neg (fun z => e2 (b32_inj.mp z))]
        exact OK_some (Or.inr ⟨_, rfl, Or.inr ⟨rfl, fcV_ex (k - 1) i (by omega) e2⟩⟩)
    · rintro st ⟨rfl, hj⟩
      show OK (Bc_X15_holds_2 g ho_ e m (nI k) c) _
      unfold Bc_X15_holds_2
      rw [if_pos h1, h2, Option.bind_some, if_pos h4.1, C_lsize h4, xbd_some, if_pos (by rw [nI_leI (by omega) (by omega)]; omega), h3, show (1 : Int32) = nI 1 from rfl, b32_and]
      exact OK_some ⟨_, rfl, Or.inl ⟨rfl, fcV_all (k - 1) (fun i hi => hj i (by omega))⟩⟩
  obtain ⟨w, ew, hw⟩ := key
  unfold f_c_X15_holds
  rw [show (0 : Int32) = nI 0 from rfl, ew, Option.bind_some]
  rcases hw with ⟨rfl, hw⟩ | ⟨rfl, hw⟩
  · rw [hw]; rfl
  · rw [Sum.elim_inl, if_pos h1, h3, hw]
    cases all
    · rw [if_pos (by decide)]; rfl
    · rw [if_neg (by decide)]; rfl
theorem TXX.of {H : HV} (v : TXX kx X h lo hi g c e H) (hg : AgG lo hi g g') (hc : AgC lo hi c c') : TXX kx X h lo hi g' c' e H := fun g2 c2 h1 h2 => v g2 c2 (hg.trans h1) (fun a a1 a2 => (hc a a1 a2).trans (h2 a a1 a2))
theorem TVAL.of (v : TVAL kx X h lo hi g c e cs) (hg : AgG lo hi g g') (hc : AgC lo hi c c') : TVAL kx X h lo hi g' c' e cs := by
  obtain ⟨v1, v2, v3, H, v4, v6, v7⟩ := v
  refine ⟨?_, v2, v3, H, v4, v6, v7.of hg hc⟩
  show isT (gT g' e % 1000) = true
  rw [(hg e v2 v3).1]; exact v1
theorem TVAL.up {h2 lo2 hi2 : Nat} (v : TVAL kx X h lo hi g c e cs) (hh : h ≤ h2) (hl : lo2 ≤ lo) (hi' : hi ≤ hi2) : TVAL kx X h2 lo2 hi2 g c e cs := by
  obtain ⟨v1, v2, v3, H, v4, v6, v7⟩ := v
  exact ⟨v1, by omega, by omega, H, v4, v6, fun g2 c2 h1 h2 h3 m a h4 lk h5 h6 d h7 => v7 g2 c2 (fun a a1 a2 => h1 a (by omega) (by omega)) (fun a a1 a2 => h2 a (by omega) (by omega)) h3 m a h4 lk h5 h6 d (by omega)⟩
theorem TVAL.pf (v : TVAL kx X h lo hi τ.1 τ.2 e cs) (p : PF X τ τ') (hl : X + 30 ≤ lo) (hh : hi ≤ gz τ.1) : TVAL kx X h lo hi τ'.1 τ'.2 e cs := by
  obtain ⟨a1, a2⟩ := p.ag (lo := lo) (hi := hi) hl hh
  exact v.of a1 a2
theorem isT_ok {t : Nat} (h : isT t = true) : okO t = true := by
  unfold isT at h
  simp only [Bool.or_eq_true, beq_iff_eq] at h
  rcases h with ((h | h) | h) | h <;> subst h <;> decide
/-- facts with their parts -/
def FC (kx X h lo hi : Nat) (g : CG) (c : CC) (e arr k : Nat) (all : Bool) (acc : List Nat) : Prop := ∃ l ad, gT g e = 13 ∧ gR g 1300 e = some l ∧ cI c 1301 e = b32 all ∧ ALs g c l arr k ad ∧ (lo ≤ e ∧ e < hi) ∧ (lo ≤ l ∧ l < hi) ∧ (lo ≤ arr ∧ arr < hi) ∧ (0 < k → okX kx acc) ∧
  ∃ (slo shi : Nat → Nat) (Hs : Nat → HV), (∀ i, i < k → lo ≤ slo i ∧ shi i ≤ hi ∧ slo i ≤ ad i ∧ ad i < shi i ∧ (∀ y, (y = e ∨ y = l ∨ y = arr) → ¬ (slo i ≤ y ∧ y < shi i)) ∧ isT (gK g (ad i)) = true ∧ TXX kx X h (slo i) (shi i) g c (ad i) (Hs i)) ∧ (0 < k → SemG acc (fun env lk => bV (fcV all (fun i => Hs i env lk) (k - 1))))
theorem FC.of (v : FC kx X h lo hi g c e arr k all acc) (hg : AgG lo hi g g') (hc : AgC lo hi c c') : FC kx X h lo hi g' c' e arr k all acc := by
  obtain ⟨l, ad, i1, i2, i3, i4, b1, b2, b3, b7, slo, shi, Hs, b8, b10⟩ := v
  refine ⟨l, ad, by rw [(hg e b1.1 b1.2).1]; exact i1, by rw [(hg e b1.1 b1.2).2.2.1]; exact i2, by rw [(hc e b1.1 b1.2).1]; exact i3, i4.of (hg l b2.1 b2.2).1 ⟨(hg arr b3.1 b3.2).1, (hg arr b3.1 b3.2).2.1⟩ (fun i hi => ?_) (hc l b2.1 b2.2) (hc arr b3.1 b3.2), b1, b2, b3, b7, slo, shi, Hs, fun i hi => ?_, b10⟩
  · obtain ⟨q1, q2, q3, q4, -⟩ := b8 i hi
    exact (hg _ (by omega) (by omega)).1
  · obtain ⟨q1, q2, q3, q4, q5, q6, q7⟩ := b8 i hi
    refine ⟨q1, q2, q3, q4, q5, ?_, q7.of (fun a a1 a2 => hg a (by omega) (by omega)) (fun a a1 a2 => hc a (by omega) (by omega))⟩
    show isT (gT g' (ad i) % 1000) = true
    rw [(hg _ (by omega) (by omega)).1]; exact q6
theorem FC.cap (v : FC kx X h lo hi g c e arr k all acc) : gN g arr ≤ 2 * k + 2 ∧ gT g e = 13 ∧ ∃ l, gR g 1300 e = some l ∧ gT g l = 18 := by
  obtain ⟨l, ad, i1, i2, i3, i4, -⟩ := v
  exact ⟨i4.2.2.2.2.2.2.1, i1, l, i2, i4.1⟩
def fcC (all : Bool) : Nat := if all = true then 10 else 11
theorem join_fc {a b : Bool} : join (fcC all) (bV a) (bV b) = bV (if all = true then a && b else a || b) := by
  cases all
  · show join 11 (bV a) (bV b) = _
    rw [join_11]
    cases a <;> cases b <;> decide
  · show join 10 (bV a) (bV b) = _
    rw [join_10]
    cases a <;> cases b <;> decide
def updH (Hs : Nat → HV) (k : Nat) (H : HV) (i : Nat) : HV := if i = k then H else Hs i
/-- one fact more -/
theorem FC.add {e2 z0 z1 : Nat} {acc' : List Nat} (v : FC kx X h lo hi τ.1 τ.2 e arr k all acc) (w : TVAL kx X h z0 z1 τ.1 τ.2 e2 cs) (hz0 : hi ≤ z0) (hz1 : z1 ≤ gz τ.1) (hlo : lo ≤ hi) (hk : k < 1000) (hc : 1 ≤ grc τ.1) (hs : 2 * k + 2 ≤ grs τ.1) (ha0 : k = 0 → acc' = cs) (ha1 : 0 < k → acc' = acc ++ cs ++ [fcC all]) :
    ∃ l, gR τ.1 1300 e = some l ∧ OK (f_a_J2_add l e2 τ) (fun o => ∃ arr', FC kx X h lo (gz o.2.1) o.2.1 o.2.2 e arr' (k + 1) all acc' ∧ STz lo τ o.2 ∧ grc τ.1 ≤ grc o.2.1 + 1 ∧ grs τ.1 + 4 * gN τ.1 arr ≤ grs o.2.1 + 4 * gN o.2.1 arr') := by
  obtain ⟨l, ad, i1, i2, i3, i4, b1, b2, b3, b7, slo, shi, Hs, b8, b10⟩ := v
  obtain ⟨w1, w2, w3, H, w4, w6, w7⟩ := w
  refine ⟨l, i2, ?_⟩
  have had : ∀ i, i < k → ad i < gz τ.1 := fun i hi => by
    obtain ⟨q1, q2, q3, q4, -⟩ := b8 i hi
    omega
  have del : e ≠ l := fun q => by rw [q, i4.1] at i1; omega
  have dea : e ≠ arr := fun q => by rw [q, i4.2.2.2.1] at i1; omega
  obtain ⟨⟨r1, τ'⟩, e1, arr', c1, c2, c7, c8, c9, c10⟩ := C_listAdd (x := e2) i4 hk (by omega) (by omega) had (isT_ok w1) (by omega) hc hs
  dsimp only at c1 c2 c7 c8 c9 c10
  have hz : gz τ.1 ≤ gz τ'.1 ∧ arr' < gz τ'.1 ∧ (arr' = arr ∨ gz τ.1 ≤ arr') := by rcases c2 with ⟨q1, q2⟩ | ⟨q1, q2⟩ <;> omega
  refine ⟨_, e1, arr', ⟨l, updN ad k e2, by rw [(c7 e (by omega) (by omega)).1]; exact i1, by rw [(c7 e (by omega) (by omega)).2.2.1]; exact i2, by rw [(c8 e (by omega) del dea).1]; exact i3, c1, by show lo ≤ e ∧ e < gz τ'.1; omega, by show lo ≤ l ∧ l < gz τ'.1; omega, by show lo ≤ arr' ∧ arr' < gz τ'.1; omega, fun _ => ?_, updN slo k z0, updN shi k z1, updH Hs k H, fun i hi => ?_, fun _ env lk p => ?_⟩, ⟨hz.1, fun a a0 a1 => c7 a a0 (by omega), fun a ha => c8 a (by omega) (by omega) (by omega)⟩, c9, c10⟩
  · by_cases k0 : k = 0
    · rw [ha0 k0]; exact w6
    · rw [ha1 (by omega)]
      intro u hu
      simp only [List.mem_append, List.mem_singleton] at hu
      rcases hu with (hu | hu) | hu
      · exact b7 (by omega) u hu
      · exact w6 u hu
      · refine Or.inl ?_
        rw [hu]
        cases all <;> decide
  · unfold updN updH
    by_cases ei : i = k
    · rw [if_pos ei, if_pos ei, if_pos ei, if_pos ei]
      refine ⟨by omega, by show z1 ≤ gz τ'.1; omega, by omega, by omega, fun u hu => by omega, ?_, w7.of (fun a a1 a2 => c7 a (by omega) (by omega)) (fun a a1 a2 => c8 a (by omega) (by omega) (by omega))⟩
      show isT (gT τ'.1 e2 % 1000) = true
      rw [(c7 e2 (by omega) (by omega)).1]; exact w1
    · rw [if_neg ei, if_neg ei, if_neg ei, if_neg ei]
      obtain ⟨q1, q2, q3, q4, q5, q6, q7⟩ := b8 i (by omega)
      have n2 := q5 l (by omega)
      have n3 := q5 arr (by omega)
      refine ⟨q1, by show shi i ≤ gz τ'.1; omega, q3, q4, fun u hu => ?_, ?_, q7.of (fun a a1 a2 => c7 a (by omega) (by omega)) (fun a a1 a2 => c8 a (by omega) (fun z => by omega) (fun z => by omega))⟩
      · have n1 := q5 e (by omega)
        rcases hu with hu | hu | hu
        · omega
        · omega
        · omega
      · show isT (gT τ'.1 (ad i) % 1000) = true
        rw [(c7 (ad i) (by omega) (by omega)).1]; exact q6
  · rw [Nat.add_sub_cancel]
    by_cases k0 : k = 0
    · subst k0
      rw [ha0 rfl, w4 env lk p]
      rfl
    · obtain ⟨j, rfl⟩ : ∃ j, k = j + 1 := ⟨k - 1, by omega⟩
      have hop : fcC all < 12 := by cases all <;> decide
      rw [ha1 (by omega), run_append, run_append, b10 (by omega) env lk p, Option.bind_some, w4 env lk, Option.bind_some, run_op hop, join_fc]
      congr 3
      show _ = (if all = true then fcV all (fun i => updH Hs (j + 1) H i env lk) j && updH Hs (j + 1) H (j + 1) env lk else fcV all (fun i => updH Hs (j + 1) H i env lk) j || updH Hs (j + 1) H (j + 1) env lk)
      have x2 : updH Hs (j + 1) H (j + 1) = H := if_pos rfl
      have x3 : fcV all (fun i => updH Hs (j + 1) H i env lk) j = fcV all (fun i => Hs i env lk) j := by
        refine fcV_congr j (fun i hi => ?_)
        have y2 : updH Hs (j + 1) H i = Hs i := if_neg (by omega)
        rw [y2]
      rw [x2, x3]; rfl
/-- facts that stand are a test -/
theorem FC.val (v : FC kx X h lo hi g c e arr k all acc) (hk0 : 0 < k) (hk : k < 1000) : TVAL kx X (h + 1) lo hi g c e acc := by
  obtain ⟨l, ad, i1, i2, i3, i4, b1, b2, b3, b7, slo, shi, Hs, b8, b10⟩ := v
  have hke : ∀ g' : CG, gT g' e = 13 → gK g' e = 13 := fun g' q => by show gT g' e % 1000 = 13; rw [q]
  refine ⟨by rw [hke g i1]; rfl, b1.1, b1.2, _, b10 hk0, b7 hk0, ?_⟩
  intro g' c' hg hc hX m arr2 hm lk hl hlb d hd
  obtain ⟨d', rfl⟩ : ∃ d', d = d' + 1 := ⟨d - 1, by omega⟩
  have j1 : gT g' e = 13 := by rw [(hg e b1.1 b1.2).1]; exact i1
  have j4 : ALs g' c' l arr k ad := i4.of (hg l b2.1 b2.2).1 ⟨(hg arr b3.1 b3.2).1, (hg arr b3.1 b3.2).2.1⟩ (fun i hi => by
    obtain ⟨q1, q2, q3, q4, -⟩ := b8 i hi
    exact (hg _ (by omega) (by omega)).1) (hc l b2.1 b2.2) (hc arr b3.1 b3.2)
  have k13 := hke g' j1
  show (if gK g' e = 15 then _ else if gK g' e = 16 then _ else if gK g' e = 14 then _ else if gK g' e = 13 then f_c_X15_holds g' (d_ho d') e m c' else _) = _
  rw [if_neg (by omega), if_neg (by omega), if_neg (by omega), if_pos k13]
  refine C_factsHo (V := fun i => Hs i (fun k => clip (cM c' arr2 k)) lk) j1 (by rw [(hg e b1.1 b1.2).2.2.1]; exact i2) (by rw [(hc e b1.1 b1.2).1]; exact i3) j4 hk hk0 (fun i hi => ?_)
  obtain ⟨q1, q2, q3, q4, q5, q6, q7⟩ := b8 i hi
  refine ⟨?_, q7 g' c' (fun a a1 a2 => hg a (by omega) (by omega)) (fun a a1 a2 => hc a (by omega) (by omega)) hX m arr2 hm lk hl hlb d' (by omega)⟩
  show isT (gT g' (ad i) % 1000) = true
  rw [(hg _ (by omega) (by omega)).1]; exact q6
/-- no facts yet -/
theorem C_fcNew (hc : 3 ≤ grc τ.1) (hs : 7 ≤ grs τ.1) (fl : Int32) (hfl : fl = b32 all) : ∃ τ1 τ2, aNew 13 τ = some (gz τ.1, τ1) ∧ f_a_X15_init (gz τ.1) fl τ1 = some τ2 ∧ FC kx X h (gz τ.1) (gz τ.1 + 3) τ2.1 τ2.2 (gz τ.1) (gz τ.1 + 2) 0 all [] ∧ gz τ2.1 = gz τ.1 + 3 ∧ STz (gz τ.1) τ τ2 ∧ grc τ2.1 = grc τ.1 - 3 ∧ grs τ2.1 = grs τ.1 - 7 ∧ gN τ2.1 (gz τ.1 + 2) = 2 := by
  obtain ⟨τ1, e1, st1, z1, t1, c1, s1⟩ := C_new (t := 13) (τ := τ) (by omega) (by show 2 ≤ _; omega)
  have s1 : grs τ1.1 = grs τ.1 - 2 := s1
  obtain ⟨τa, τb, ea, eb, hA, zb, stb, cb, sb, nb⟩ := C_listNew (τ := τ1) (by omega) (by omega)
  rw [z1] at ea eb hA zb stb nb
  generalize gz τ.1 = z at *
  have tb : gT τb.1 z = 13 := by rw [(stb.2.1 z (by omega) (by omega)).1]; exact t1
  have hx : xbl fl = true := by subst hfl; cases all <;> decide
  have G9 : ∀ b, b ≠ z → gT (vR τb.1 1300 z (some (z + 1))) b = gT τb.1 b ∧ gN (vR τb.1 1300 z (some (z + 1))) b = gN τb.1 b ∧ (∀ k, gR (vR τb.1 1300 z (some (z + 1))) k b = gR τb.1 k b) ∧ ∀ i, gA (vR τb.1 1300 z (some (z + 1))) b i = gA τb.1 b i := fun b hb => ⟨rfl, rfl, fun k => by rw [vR_R, if_neg (fun q => hb q.2)], fun i => rfl⟩
  have E9 : ∀ b, b ≠ z → Eq1 τb.2 (uI τb.2 1301 z fl) b := fun b hb => (Eq1.refl τb.2 b).uI hb
  refine ⟨τ1, (vR τb.1 1300 z (some (z + 1)), uI τb.2 1301 z fl), e1, ?_, ⟨z + 1, fun _ => 0, tb, ?_, ?_, hA.of rfl ⟨rfl, rfl⟩ (fun i hi => absurd hi (Nat.not_lt_zero i)) (E9 _ (by omega)) (E9 _ (by omega)), by omega, by omega, by omega, fun q => absurd q (Nat.lt_irrefl 0), fun _ => 0, fun _ => 0, fun _ _ _ => true, fun i hi => absurd hi (Nat.not_lt_zero i), fun q => absurd q (Nat.lt_irrefl 0)⟩, zb, ?_, by show grc τb.1 = _; omega, by show grs τb.1 = _; omega, nb⟩
  · unfold f_a_X15_init f_a_X14_init
    rw [Option.bind_some, ea, xbd_some, eb, Option.bind_some, if_pos tb, if_pos hx]
  · show gR (vR τb.1 1300 z (some (z + 1))) 1300 z = _
    rw [vR_R, if_pos ⟨rfl, rfl⟩]
  · show cI (uI τb.2 1301 z fl) 1301 z = _
    rw [cI_uI, if_pos ⟨rfl, rfl⟩]; exact hfl
  · refine (st1.trans (stb.le (by omega))).trans ⟨Nat.le_refl _, fun b _ hb => G9 b (by omega), fun b hb => E9 b (by omega)⟩
end ZZJ1
