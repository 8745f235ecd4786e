/-! PLAIN LAW: values of the component: held, two joined, chains -/
set_option maxRecDepth 100000
def bdd (x : Int64) : Prop := -1000000 ≤ x.toInt ∧ x.toInt ≤ 1000000
theorem i64_1000000 : (1000000 : Int64).toInt = 1000000 := by decide
theorem i64_m1000000 : (-1000000 : Int64).toInt = -1000000 := by decide
theorem clip_bdd (x : Int64) : bdd (clip x) := by
  unfold bdd clip
  split
  · rw [i64_1000000]; omega
  · split
    · rw [i64_m1000000]; omega
    · rename_i h1 h2
      rw [Int64.lt_iff_toInt_lt, i64_1000000] at h1
      rw [Int64.lt_iff_toInt_lt, i64_m1000000] at h2
      omega
theorem clip_id {x : Int64} (h : bdd x) : clip x = x := by
  unfold bdd at h
  unfold clip
  rw [if_neg (by rw [Int64.lt_iff_toInt_lt, i64_1000000]; omega), if_neg (by rw [Int64.lt_iff_toInt_lt, i64_m1000000]; omega)]
theorem flr_bdd {a b : Int64} (h : bdd a) : bdd (flr a b) := by
  have z0 : (0 : Int64).toInt = 0 := by decide
  have hmin : a ≠ Int64.minValue := by
    intro e
    rw [e] at h
    have : Int64.minValue.toInt = -9223372036854775808 := by decide
    unfold bdd at h
    omega
  have hq := Int64.toInt_div_of_ne_left a b hmin
  have hna : (a.toInt.tdiv b.toInt).natAbs = a.toInt.natAbs / b.toInt.natAbs := Int.natAbs_tdiv _ _
  have hle : a.toInt.natAbs / b.toInt.natAbs ≤ a.toInt.natAbs := Nat.div_le_self _ _
  unfold bdd at h
  have hqb : bdd (a / b) := by
    unfold bdd
    rw [hq]
    omega
  unfold flr
  split
  · unfold bdd; rw [z0]; omega
  · split
    · exact hqb
    · split
      · exact hqb
      · rename_i hb hr hs
        have hsub : (a / b - 1).toInt = (a / b).toInt - 1 := by
          have o1 : (1 : Int64).toInt = 1 := by decide
          unfold bdd at hqb
          rw [Int64.toInt_sub, o1]
          exact Int.bmod_eq_of_le (by omega) (by omega)
        unfold bdd at hqb ⊢
        rw [hsub]
        by_cases hq2 : (a / b).toInt = -1000000
        · exfalso
          rw [hq] at hq2
          rw [hq2] at hna
          have hna : (1000000 : Nat) = a.toInt.natAbs / b.toInt.natAbs := hna
          have hb1 : b.toInt.natAbs = 1 := by
            rcases Nat.lt_or_ge b.toInt.natAbs 2 with h2 | h2
            · have : b.toInt.natAbs ≠ 0 := by
                intro e
                rw [e, Nat.div_zero] at hna
                omega
              omega
            · exfalso
              have := Nat.div_le_div_left h2 (a := a.toInt.natAbs) (by omega)
              omega
          apply hr
          have hb2 : b.toInt = 1 ∨ b.toInt = -1 := by omega
          have hmul : (a / b * b).toInt = a.toInt := by
            rw [Int64.toInt_mul, hq]
            rcases hb2 with e | e
            · rw [e, Int.tdiv_one, Int.mul_one]
              exact Int.bmod_eq_of_le (by omega) (by omega)
            · rw [e, Int.tdiv_neg, Int.tdiv_one, show -a.toInt * -1 = a.toInt by omega]
              exact Int.bmod_eq_of_le (by omega) (by omega)
          rw [← Int64.toInt_inj, Int64.toInt_sub, hmul, Int.sub_self, z0]
          rfl
        · omega
theorem xor_sign (a b : Int64) : (0 ≤ (a ^^^ b)) ↔ (a < 0 ↔ b < 0) := by
  have z0 : (0 : Int64).toInt = 0 := by decide
  have key : ∀ x : Int64, (x < 0) ↔ x.toBitVec.msb = true := fun x => by
    rw [Int64.lt_iff_toInt_lt, z0, BitVec.msb_eq_toInt]
    show x.toBitVec.toInt < 0 ↔ _
    simp
  have h0 : (0 ≤ (a ^^^ b)) ↔ ¬ ((a ^^^ b) < 0) := by
    rw [Int64.le_iff_toInt_le, Int64.lt_iff_toInt_lt]; omega
  rw [h0, key, key, key, Int64.toBitVec_xor, BitVec.msb_xor]
  cases a.toBitVec.msb <;> cases b.toBitVec.msb <;> simp

theorem C_max2 {g : CG} {a b : Int64} {c : CC} : f_c_J12_max_2 g a b c = some (if a < b then b else a, c) := by
  unfold f_c_J12_max_2
  by_cases h : a < b
  · rw [if_pos ((lg_cmp_lt _ _).mpr h), if_pos h]
  · rw [if_neg (fun z => h ((lg_cmp_lt _ _).mp z)), if_neg h]
theorem C_min2 {g : CG} {a b : Int64} {c : CC} : f_c_J12_min_2 g a b c = some (if b < a then b else a, c) := by
  unfold f_c_J12_min_2
  have e : ((0 : Int32) < lg_cmp a b) ↔ b < a := lg_cmp_gt a b
  by_cases h : b < a
  · rw [if_pos (e.mpr h), if_pos h]
  · rw [if_neg (fun z => h (e.mp z)), if_neg h]
theorem C_held {g : CG} {x : Int64} {c : CC} : f_c_X0_held g x c = some (clip x, c) := by
  unfold f_c_X0_held
  rw [C_min2, xbd_some, C_max2, xbd_some]
  congr 2
  unfold clip
  by_cases h1 : (1000000 : Int64) < x
  · have h2 : ¬ x < 1000000 := by rw [Int64.lt_iff_toInt_lt] at h1 ⊢; omega
    rw [if_neg h2, if_pos h1, if_pos (by decide)]
  · rw [if_neg h1]
    by_cases h2 : x < 1000000
    · rw [if_pos h2]
      by_cases h3 : x < -1000000
      · rw [if_pos h3, if_neg (by rw [Int64.lt_iff_toInt_lt] at h3 ⊢; omega)]
      · rw [if_neg h3]
        by_cases h4 : -1000000 < x
        · rw [if_pos h4]
        · rw [if_neg h4, ← Int64.toInt_inj]
          rw [Int64.lt_iff_toInt_lt] at h3 h4
          omega
    · have e : x = 1000000 := by
        rw [← Int64.toInt_inj]
        rw [Int64.lt_iff_toInt_lt] at h1 h2
        omega
      rw [if_neg h2, e, if_pos (by decide), if_neg (by decide)]
theorem join_1 {a b : Int64} : join 1 a b = (clip (a + b)) := by
  unfold join
  rw [if_pos rfl]
theorem join_2 {a b : Int64} : join 2 a b = (clip (a - b)) := by
  unfold join
  rw [if_neg (by decide), if_pos rfl]
theorem join_3 {a b : Int64} : join 3 a b = (clip (a * b)) := by
  unfold join
  rw [if_neg (by decide), if_neg (by decide), if_pos rfl]
theorem join_4 {a b : Int64} : join 4 a b = (flr a b) := by
  unfold join
  rw [if_neg (by decide), if_neg (by decide), if_neg (by decide), if_pos rfl]
theorem join_5 {a b : Int64} : join 5 a b = (if a < b then a else b) := by
  unfold join
  rw [if_neg (by decide), if_neg (by decide), if_neg (by decide), if_neg (by decide), if_pos rfl]
theorem join_6 {a b : Int64} : join 6 a b = (if b < a then a else b) := by
  unfold join
  rw [if_neg (by decide), if_neg (by decide), if_neg (by decide), if_neg (by decide), if_neg (by decide), if_pos rfl]
theorem join_7 {a b : Int64} : join 7 a b = (if a < b then 1 else 0) := by
  unfold join
  rw [if_neg (by decide), if_neg (by decide), if_neg (by decide), if_neg (by decide), if_neg (by decide), if_neg (by decide), if_pos rfl]
theorem join_8 {a b : Int64} : join 8 a b = (if b < a then 1 else 0) := by
  unfold join
  rw [if_neg (by decide), if_neg (by decide), if_neg (by decide), if_neg (by decide), if_neg (by decide), if_neg (by decide), if_neg (by decide), if_pos rfl]
theorem join_9 {a b : Int64} : join 9 a b = (if a = b then 1 else 0) := by
  unfold join
  rw [if_neg (by decide), if_neg (by decide), if_neg (by decide), if_neg (by decide), if_neg (by decide), if_neg (by decide), if_neg (by decide), if_neg (by decide), if_pos rfl]
theorem join_10 {a b : Int64} : join 10 a b = (a * b) := by
  unfold join
  rw [if_neg (by decide), if_neg (by decide), if_neg (by decide), if_neg (by decide), if_neg (by decide), if_neg (by decide), if_neg (by decide), if_neg (by decide), if_neg (by decide), if_pos rfl]
theorem join_11 {a b : Int64} : join 11 a b = (if 0 < a + b then 1 else 0) := by
  unfold join
  rw [if_neg (by decide), if_neg (by decide), if_neg (by decide), if_neg (by decide), if_neg (by decide), if_neg (by decide), if_neg (by decide), if_neg (by decide), if_neg (by decide), if_neg (by decide)]
/-- the code of a sign -/
def sgC (s : Nat) : Nat := if s = 43 then 1 else if s = 45 then 2 else if s = 42 then 3 else 4
theorem C_two {g : CG} {s : Nat} {a b : Int64} {c : CC} (hs : s = 42 ∨ s = 43 ∨ s = 45 ∨ s = 47) (ha : bdd a) : (xbd (f_c_X9_two g (nI s) a b c) fun r17 τ17 => f_c_X0_held g r17 τ17) = some (join (sgC s) a b, c) := by
  unfold f_c_X9_two Jc_X9_two_44
  rcases hs with rfl | rfl | rfl | rfl
  · rw [if_pos (show nI 42 = 42 from rfl), xbd_some, C_held, show sgC 42 = 3 by decide, join_3]
  · rw [if_neg (show ¬ nI 43 = 42 by decide), if_pos (show nI 43 = 43 from rfl), xbd_some, C_held, show sgC 43 = 1 by decide, join_1]
  · rw [if_neg (show ¬ nI 45 = 42 by decide), if_neg (show ¬ nI 45 = 43 by decide), if_neg (show ¬ nI 45 = 44 by decide), if_pos (show nI 45 = 45 from rfl), xbd_some, C_held, show sgC 45 = 2 by decide, join_2]
  · rw [if_neg (show ¬ nI 47 = 42 by decide), if_neg (show ¬ nI 47 = 43 by decide), if_neg (show ¬ nI 47 = 44 by decide), if_neg (show ¬ nI 47 = 45 by decide), show sgC 47 = 4 by decide, join_4]
    rw [← clip_id (flr_bdd (b := b) ha), ← C_held (g := g) (c := c)]
    unfold flr f_c_J12_floorDiv
    have e0 := lg_cmp_eq b 0
    by_cases h0 : b = 0
    · rw [if_pos (e0.mpr h0), if_pos h0, xbd_some]
    · have e1 : ((0 : Int32) ≤ lg_cmp (a ^^^ b) 0) ↔ (a < 0 ↔ b < 0) := (lg_cmp_ge _ _).trans (xor_sign a b)
      have e2 : (lg_cmp (a / b * b) a = 0) ↔ a - a / b * b = 0 := by
        rw [lg_cmp_eq]
        constructor
        · intro e; rw [e, Int64.sub_self]
        · intro e
          have := congrArg (· + a / b * b) e
          simpa using this.symm
      rw [if_neg (fun z => h0 (e0.mp z)), if_pos h0, if_neg h0]
      by_cases h1 : (a < 0 ↔ b < 0)
      · rw [if_pos (e1.mpr h1), xbd_some, xbd_some, if_pos h1]
        split <;> rfl
      · rw [if_neg (fun z => h1 (e1.mp z)), if_neg h1]
        by_cases h2 : a - a / b * b = 0
        · rw [if_pos (e2.mpr h2), xbd_some, xbd_some, if_pos h2]
        · rw [if_neg (fun z => h2 (e2.mp z)), xbd_some, xbd_some, if_neg h2]
section ZZB1
variable {g : CG} {c : CC} {l arr k s ba e m : Nat} {ad sg : Nat → Nat}
theorem C_lget {i : Nat} (h : ALs g c l arr k ad) (hk : k < 5000) (hi : i < k) : f_c_J2_get g l (nI i) c = some (ad i, c) := by
  obtain ⟨h1, h2, h3, h4, h5, h6, h7, h8, h9⟩ := h
  unfold f_c_J2_get f_c_J11_checkIndex f_c_J8_checkIndex f_c_J2_elementData
  rw [if_pos h1, h8, if_neg (nI_pos (by omega)), if_pos (by rw [nI_ltI (by omega) (by omega)]; exact hi), xbd_some, xbd_some, if_pos h1, h3, Option.bind_some, if_pos h4, if_pos (xin_nI (show i < gN g arr by omega) (by omega)), nI_clamp (show i < 2 ^ 31 by omega), (h9 i hi).1, Option.bind_some, xbd_some]
theorem C_lsize (h : ALs g c l arr k ad) : f_c_J2_size g l c = some (nI k, c) := by
  unfold f_c_J2_size
  rw [if_pos h.1, h.2.2.2.2.2.2.2.1]
theorem ch_s : ∀ x, x < 128 → (((((nI x) &&& 255).toUInt32 % 65536).toInt32).toUInt32.toUInt16.toUInt32.toInt32).toUInt32.toUInt16.toUInt32.toInt32 = nI x := by decide +kernel
theorem C_sbat {i : Nat} (h : SBs g c s ba k sg) (hk : k < 1000) (hi : i < k) : f_c_J15_charAt g s (nI i) c = some (nI (sg i), c) := by
  obtain ⟨h1, h2, h3, h4, h5, h6, h7, h8, h9, h10⟩ := h
  have k4 : gK g ba = 103 := by show gT g ba % 1000 = 103; rw [h4]
  have sh := sh_0 (gN g ba) (by omega)
  unfold f_c_J15_charAt f_c_J14_charAt f_c_J6_checkIndex f_c_J8_checkIndex
  rw [if_pos h1, if_pos h1, h3, Option.bind_some, if_pos k4, h9, h8, show (nI 0 : Int32) = 0 from rfl, show Int32.ofNat (gN g ba) = nI (gN g ba) from rfl, sh.1, C_min, xbd_some, if_neg (show ¬ nI (gN g ba) < nI k by rw [nI_ltI (by omega) (by omega)]; omega), if_neg (nI_pos (by omega)), if_pos (by rw [nI_ltI (by omega) (by omega)]; exact hi), xbd_some, Option.bind_some, if_pos rfl, if_pos (xin_nI (show i < gN g ba by omega) (by omega)), nI_clamp (show i < 2 ^ 31 by omega), xbd_some, (h10 i hi).1, ch_s _ (h10 i hi).2]
/-- a chain's value -/
def chV (sg : Nat → Nat) (V : Nat → Int64) : Nat → Int64
  | 0 => V 0
  | j + 1 => join (sgC (sg (j + 1))) (chV sg V j) (V (j + 1))
def sgOk (s : Nat) : Prop := s = 42 ∨ s = 43 ∨ s = 45 ∨ s = 47
theorem join_bdd {s : Nat} {a b : Int64} (ha : bdd a) : bdd (join (sgC s) a b) := by
  unfold sgC
  split
  · rw [join_1]; exact clip_bdd _
  · split
    · rw [join_2]; exact clip_bdd _
    · split
      · rw [join_3]; exact clip_bdd _
      · rw [join_4]; exact flr_bdd ha
theorem chV_bdd {V : Nat → Int64} (h : ∀ i, bdd (V i)) : ∀ j, bdd (chV sg V j)
  | 0 => h 0
  | j + 1 => join_bdd (chV_bdd h j)
/-- a chain -/
def ChI (g : CG) (c : CC) (e l arr s ba k : Nat) (ad sg : Nat → Nat) : Prop := gT g e = 8 ∧ gR g 800 e = some l ∧ gR g 801 e = some s ∧ ALs g c l arr k ad ∧ SBs g c s ba k sg
theorem C_chainAt {at_ : Nat → Nat → CG → CC → Option (Int64 × CC)} {V : Nat → Int64} (h : ChI g c e l arr s ba k ad sg) (hk : k < 1000) (hk0 : 0 < k) (hs : ∀ i, 0 < i → i < k → sgOk (sg i)) (hV : ∀ i, i < k → isV (gK g (ad i)) = true ∧ at_ (ad i) m g c = some (V i, c)) (hb : ∀ i, bdd (V i)) : f_c_X9_at g at_ e m c = some (chV sg V (k - 1), c) := by
  obtain ⟨h1, h2, h3, h4, h5⟩ := h
  have key : OK (itr (fun s_ : Int64 × Int32 × CC => Bc_X9_at_21 g at_ e m s_.1 s_.2.1 s_.2.2) 4096 (V 0, nI 1, c)) (fun o => o = (chV sg V (k - 1), c)) := by
    refine itr_for (fun i st => st = (chV sg V (i - 1), nI i, c)) _ 1 k ?_ ?_ (by omega) (by omega) rfl
    · rintro i st hi1 hi2 rfl
      show OK (Bc_X9_at_21 g at_ e m (chV sg V (i - 1)) (nI i) c) _
      unfold Bc_X9_at_21
      obtain ⟨v1, v2⟩ := hV i hi2
      have e2 := C_two (g := g) (s := sg i) (a := chV sg V (i - 1)) (b := V i) (c := c) (hs i (by omega) hi2) (chV_bdd hb (i - 1))
      rw [if_pos h1, h2, Option.bind_some, if_pos h4.1, C_lsize h4, xbd_some, if_neg (by rw [nI_leI (by omega) (by omega)]; omega), h3, Option.bind_some, if_pos h5.1, C_sbat h5 hk hi2, xbd_some, C_lget h4 (by omega) hi2, xbd_some, if_pos v1, v2, xbd_some]
      cases hh : f_c_X9_two g (nI (sg i)) (chV sg V (i - 1)) (V i) c with
      | none => rw [hh] at e2; cases e2
      | some rt =>
        obtain ⟨r17, τ17⟩ := rt
        rw [hh, xbd_some] at e2
        rw [xbd_some, e2, xbd_some, nl_1, nI_add]
        refine OK_some (Or.inl ⟨_, rfl, ?_⟩)
        obtain ⟨j, rfl⟩ : ∃ j, i = j + 1 := ⟨i - 1, by omega⟩
        rfl
    · rintro st rfl
      show OK (Bc_X9_at_21 g at_ e m (chV sg V (k - 1)) (nI k) c) _
      unfold Bc_X9_at_21
      rw [if_pos h1, h2, Option.bind_some, if_pos h4.1, C_lsize h4, xbd_some, if_pos (by rw [nI_leI (by omega) (by omega)]; omega)]
      exact OK_some ⟨_, rfl, rfl⟩
  obtain ⟨o, eo, rfl⟩ := key
  obtain ⟨v1, v2⟩ := hV 0 hk0
  unfold f_c_X9_at
  rw [if_pos h1, h2, Option.bind_some, if_pos h4.1, show (0 : Int32) = nI 0 from rfl, C_lget h4 (by omega) hk0, xbd_some, if_pos v1, v2, xbd_some, show (1 : Int32) = nI 1 from rfl, eo, Option.bind_some]
end ZZB1
