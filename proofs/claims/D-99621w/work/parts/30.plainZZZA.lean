/-! PLAIN LAW: lists and builders of the component grow -/
set_option maxRecDepth 100000
theorem sh_1 : ∀ N, N < 2048 → (nI N : Int32) >>> ((1 : Int32) &&& 31) = nI (N / 2) := by decide +kernel
theorem sh_0 : ∀ N, N < 4096 → (nI N : Int32) >>> ((0 : Int32) &&& 31) = nI N ∧ (nI N : Int32) <<< ((0 : Int32) &&& 31) = nI N := by decide +kernel
def okO (t : Nat) : Bool := asg 109 t && decide (0 < t) && decide (t < 22)
def updN (ad : Nat → Nat) (k x : Nat) (i : Nat) : Nat := if i = k then x else ad i
/-- a list of references -/
def ALs (g : CG) (c : CC) (l arr k : Nat) (ad : Nat → Nat) : Prop := gT g l = 18 ∧ l ≠ arr ∧ cR c 1801 l = some arr ∧ gT g arr = 109 ∧ k ≤ gN g arr ∧ 2 ≤ gN g arr ∧ gN g arr ≤ 2 * k + 2 ∧ cI c 1802 l = nI k ∧ ∀ i, i < k → cP c arr i = some (ad i) ∧ okO (gK g (ad i)) = true
/-- a builder of signs -/
def SBs (g : CG) (c : CC) (s ba k : Nat) (sg : Nat → Nat) : Prop := gT g s = 20 ∧ s ≠ ba ∧ cR c 2000 s = some ba ∧ gT g ba = 103 ∧ k ≤ gN g ba ∧ 16 ≤ gN g ba ∧ gN g ba ≤ 2 * k + 16 ∧ cI c 2001 s = nI 0 ∧ cI c 2003 s = nI k ∧ ∀ i, i < k → cA c ba i = nI (sg i) ∧ sg i < 128
section ZZA1
variable {τ : CS} {l arr k x s ba : Nat} {ad sg : Nat → Nat}
theorem C_newLen {g : CG} {c : CC} {a b d : Nat} (ha : a < 100000) (hb : b < 100000) (hd : d < 100000) (h0 : 0 < a + b) : f_c_J10_newLength g (nI a) (nI b) (nI d) c = some (nI (a + (if b < d then d else b)), c) := by
  unfold f_c_J10_newLength
  rw [C_max, xbd_some]
  have e : (if nI b < nI d then nI d else nI b) = nI (if b < d then d else b) := by
    by_cases h : b < d
    · rw [if_pos (by rw [nI_ltI (by omega) (by omega)]; exact h), if_pos h]
    · rw [if_neg (by rw [nI_ltI (by omega) (by omega)]; exact h), if_neg h]
  rw [e, nI_add]
  have hm : (if b < d then d else b) < 100000 := by split <;> omega
  have hm2 : 0 < a + (if b < d then d else b) := by split <;> omega
  generalize (if b < d then d else b) = m at *
  rw [if_neg (by show ¬ nI (a + m) ≤ nI 0; rw [nI_leI (by omega) (by omega)]; omega), if_neg (by show ¬ nI 2147483639 < nI (a + m); rw [nI_ltI (by omega) (by omega)]; omega)]
theorem C_listAdd (h : ALs τ.1 τ.2 l arr k ad) (hk : k < 1000) (hl : l < gz τ.1) (ha : arr < gz τ.1) (had : ∀ i, i < k → ad i < gz τ.1) (hx : okO (gK τ.1 x) = true) (hx2 : x < gz τ.1) (hc : 1 ≤ grc τ.1) (hs : 2 * k + 2 ≤ grs τ.1) :
    OK (f_a_J2_add l x τ) (fun o => ∃ arr', ALs o.2.1 o.2.2 l arr' (k + 1) (updN ad k x) ∧ (arr' = arr ∧ gz o.2.1 = gz τ.1 ∨ arr' = gz τ.1 ∧ gz o.2.1 = gz τ.1 + 1) ∧ AgG 0 (gz τ.1) τ.1 o.2.1 ∧ (∀ a, a < gz τ.1 → a ≠ l → a ≠ arr → Eq1 τ.2 o.2.2 a) ∧ grc τ.1 ≤ grc o.2.1 + 1 ∧ grs τ.1 + 4 * gN τ.1 arr ≤ grs o.2.1 + 4 * gN o.2.1 arr') := by
  obtain ⟨g, c⟩ := τ
  obtain ⟨h1, h2, h3, h4, h5, h6, h7, h8, h9⟩ := h
  dsimp only at *
  unfold f_a_J2_add f_a_J2_add_2
  dsimp only
  have r1 : cR (uI c 1800 l ((cI c 1800 l) + 1)) 1801 l = some arr := h3
  have r2 : cI (uI c 1800 l ((cI c 1800 l) + 1)) 1802 l = nI k := by rw [cI_uI, if_neg (by omega)]; exact h8
  rw [if_pos h1, r1, Option.bind_some, r2, if_pos h4]
  generalize hc1 : uI c 1800 l ((cI c 1800 l) + 1) = c1 at *
  have q1 : ∀ a, a ≠ l → Eq1 c c1 a := fun a ha => by rw [← hc1]; exact (Eq1.refl c a).uI ha
  have hx3 : asg 109 (gK g x) = true := by
    unfold okO at hx
    simp only [Bool.and_eq_true] at hx
    exact hx.1.1
  by_cases e : k = gN g arr
  · -- it grows
    rw [if_pos (by rw [← e]; rfl), if_pos h1]
    unfold f_a_J2_grow f_a_J2_grow_2 Jc_J2_grow_2_20 f_a_J13_copyOf f_a_J13_copyOf_2 Jc_J13_copyOf_2_24
    dsimp only
    rw [if_pos h1, if_pos h1, r1, Option.bind_some, if_pos h4, ← e, show Int32.ofNat k = nI k from rfl, if_pos (by show nI 0 < nI k; rw [nI_ltI (by omega) (by omega)]; omega), r2, nl_1, nI_add, pk_sub (by omega), show k + 1 - k = 1 by omega, show (nI k : Int32) >>> (nI 1 &&& 31) = nI (k / 2) from sh_1 k (by omega), C_newLen (by omega) (by omega) (by omega) (by omega), xbd_some, if_pos h1, r1, Option.bind_some, if_pos h4]
    generalize hN : k + (if 1 < k / 2 then k / 2 else 1) = N at *
    have hNb : k + 1 ≤ N ∧ N ≤ 2 * k + 2 ∧ 4 * k ≤ 3 * N := by
      rw [← hN]
      split <;> omega
    rw [aArr_ok (τ := (g, c1)) (t := 109) (n := N) (by dsimp only; omega) (by dsimp only; omega) (by omega), xbd_some]
    dsimp only
    generalize hz : gz g = z at *
    have tz : ∀ a, a ≠ z → gT (nG g 109 N N) a = gT g a := fun a ha => by rw [nG_T, hz, if_neg ha]
    have nz : ∀ a, a ≠ z → gN (nG g 109 N N) a = gN g a := fun a ha => by rw [nG_N, hz, if_neg ha]
    have tzz : gT (nG g 109 N N) z = 109 := by rw [nG_T, hz, if_pos rfl]
    have nzz : gN (nG g 109 N N) z = N := by rw [nG_N, hz, if_pos rfl]
    have gkz : ∀ a, a ≠ z → gK (nG g 109 N N) a = gK g a := fun a ha => by
      show gT (nG g 109 N N) a % 1000 = gT g a % 1000
      rw [tz a ha]
    have q2 : ∀ a, a ≠ z → Eq1 c1 (zC c1 z) a := fun a ha => zC_e ha
    rw [tz arr (by omega), if_pos h4, nz arr (by omega), ← e, show Int32.ofNat k = nI k from rfl, C_min, xbd_some, if_neg (show ¬ nI N < nI k by rw [nI_ltI (by omega) (by omega)]; omega), tzz, if_pos rfl, nzz, show (0 : Int32).toNatClampNeg = 0 by decide, nI_clamp (show k < 2 ^ 31 by omega), if_pos (by
      unfold xcp
      rw [show (0 : Int32).toNatClampNeg = 0 by decide, nI_clamp (show k < 2 ^ 31 by omega)]
      have : (0 : Int32) ≤ nI k := by show nI 0 ≤ nI k; rw [nI_leI (by omega) (by omega)]; omega
      simp [this]; omega), if_pos (by
      unfold xcpO
      rw [List.all_eq_true]
      intro i hi
      have hi : i < k := by simpa using hi
      have e9 : cP (zC c1 z) arr (0 + i) = some (ad i) := by
        rw [Nat.zero_add, (q2 arr (by omega)).2.2.2.2.2, (q1 arr (by omega)).2.2.2.2.2]; exact (h9 i hi).1
      rw [e9]
      have e8 := (h9 i hi).2
      have e7 := had i hi
      show okO (gK (nG g 109 N N) (ad i)) = true
      rw [gkz _ (by omega)]
      exact e8), xbd_some, xbd_some]
    dsimp only
    rw [tz l (by omega), if_pos h1, xbd_some, xbd_some]
    unfold Jc_J2_add_2_11
    dsimp only
    rw [tzz, if_pos rfl, gkz x (by omega), if_pos hx3, nzz, if_pos (xin_nI (show k < N by omega) (by omega)), tz l (by omega), if_pos h1, nI_clamp (show k < 2 ^ 31 by omega), nl_1, nI_add, Option.bind_some]
    have cpe : ∀ a, a ≠ z → Eq1 (zC c1 z) (cpP (zC c1 z) arr z 0 0 k) a := fun a ha => ⟨fun _ => rfl, fun _ => rfl, fun _ => rfl, fun _ => rfl, fun _ => rfl, fun i => if_neg ha⟩
    have cpz : ∀ i, i < k → cP (cpP (zC c1 z) arr z 0 0 k) z i = some (ad i) := fun i hi => by
      show (if z = z then va_cpy _ _ 0 0 k i else _) = _
      rw [if_pos rfl]
      unfold va_cpy
      rw [if_pos (by omega), show 0 + (i - 0) = i by omega]
      show cP (zC c1 z) arr i = _
      rw [(q2 arr (by omega)).2.2.2.2.2, (q1 arr (by omega)).2.2.2.2.2]; exact (h9 i hi).1
    refine OK_some ⟨z, ⟨?_, by omega, ?_, tzz, by rw [nzz]; omega, by rw [nzz]; omega, by rw [nzz]; omega, ?_, fun i hi => ?_⟩, Or.inr ⟨rfl, by show gz (nG _ _ _ _) = _; rw [nG_z, hz]⟩, fun a _ h2 => ⟨tz a (by omega), nz a (by omega), fun j => by show gR (nG _ _ _ _) j a = _; rw [nG_R, hz, if_neg (by omega)], fun i => rfl⟩, fun a a1 a2 a3 => ?_, ?_, ?_⟩
    · show gT (nG g 109 N N) l = 18
      rw [tz l (by omega)]; exact h1
    · show cR (uI (uP (uR _ 1801 l (some z)) z k (some x)) 1802 l _) 1801 l = some z
      rw [cR_uI, cR_uP, cR_uR, if_pos ⟨rfl, rfl⟩]
    · show cI (uI _ 1802 l _) 1802 l = _
      rw [cI_uI, if_pos ⟨rfl, rfl⟩]
    · show cP (uI (uP (uR _ 1801 l (some z)) z k (some x)) 1802 l _) z i = _ ∧ okO (gK (nG g 109 N N) _) = true
      rw [cP_uI, cP_uP]
      unfold updN
      by_cases ei : i = k
      · rw [if_pos ⟨rfl, ei⟩, if_pos ei, gkz x (by omega)]; exact ⟨rfl, hx⟩
      · rw [if_neg (fun q => ei q.2), if_neg ei, cP_uR, cpz i (by omega), gkz _ (by have := had i (by omega); omega)]
        exact ⟨rfl, (h9 i (by omega)).2⟩
    · exact (((((q1 a a2).trans (q2 a (by omega))).trans (cpe a (by omega))).uR a2).uP (by omega)).uI a2
    · show grc g ≤ grc (nG _ _ _ _) + 1
      rw [nG_c]; omega
    · show grs g + 4 * k ≤ grs (nG _ _ _ _) + 4 * gN (nG g 109 N N) z
      rw [nG_s, nzz]; omega
  · -- it has room
    rw [if_neg (by show ¬ nI k = nI (gN g arr); rw [nI_eq (by omega) (by omega)]; exact e)]
    unfold Jc_J2_add_2_11
    dsimp only
    rw [if_pos h4, if_pos hx3, if_pos (xin_nI (show k < gN g arr by omega) (by omega)), if_pos h1, nI_clamp (show k < 2 ^ 31 by omega), nl_1, nI_add, Option.bind_some]
    refine OK_some ⟨arr, ⟨h1, h2, ?_, h4, by show _ ≤ gN g arr; omega, h6, by show gN g arr ≤ _; omega, ?_, fun i hi => ?_⟩, Or.inl ⟨rfl, rfl⟩, AgG.refl _ _ _, fun a a1 a2 a3 => ?_, by show grc g ≤ grc g + 1; omega, Nat.le_refl _⟩
    · show cR (uI (uP _ arr k (some x)) 1802 l _) 1801 l = some arr
      rw [cR_uI, cR_uP]; exact r1
    · show cI (uI _ 1802 l _) 1802 l = _
      rw [cI_uI, if_pos ⟨rfl, rfl⟩]
    · show cP (uI (uP _ arr k (some x)) 1802 l _) arr i = _ ∧ okO (gK g _) = true
      rw [cP_uI, cP_uP]
      unfold updN
      by_cases ei : i = k
      · rw [if_pos ⟨rfl, ei⟩, if_pos ei]; exact ⟨rfl, hx⟩
      · rw [if_neg (fun q => ei q.2), if_neg ei, (q1 arr (fun q => h2 q.symm)).2.2.2.2.2]; exact h9 i (by omega)
    · exact ((q1 a a2).uP a3).uI a2
end ZZA1
theorem fit_b : ∀ x, x < 128 → fits .byte (.int (nI x)) = true := by decide +kernel
theorem b8_b : ∀ x, x < 128 → (nI x).toInt8.toInt32.toInt8.toInt32 = nI x := by decide +kernel
section ZZA2
variable {τ : CS} {l arr k x s ba : Nat} {ad sg : Nat → Nat}
theorem C_sbAdd {y : Nat} (h : SBs τ.1 τ.2 s ba k sg) (hk : k < 1000) (hl : s < gz τ.1) (ha : ba < gz τ.1) (hy : y < 128) (hc : 1 ≤ grc τ.1) (hs : 4 * k + 40 ≤ grs τ.1) :
    OK (f_a_J15_append s (nI y) τ) (fun o => ∃ ba', SBs o.2.1 o.2.2 s ba' (k + 1) (updN sg k y) ∧ (ba' = ba ∧ gz o.2.1 = gz τ.1 ∨ ba' = gz τ.1 ∧ gz o.2.1 = gz τ.1 + 1) ∧ AgG 0 (gz τ.1) τ.1 o.2.1 ∧ (∀ a, a < gz τ.1 → a ≠ s → a ≠ ba → Eq1 τ.2 o.2.2 a) ∧ grc τ.1 ≤ grc o.2.1 + 1 ∧ grs τ.1 + 2 * gN τ.1 ba ≤ grs o.2.1 + 2 * gN o.2.1 ba') := by
  obtain ⟨g, c⟩ := τ
  obtain ⟨h1, h2, h3, h4, h5, h6, h7, h8, h9, h10⟩ := h
  dsimp only at *
  unfold f_a_J15_append f_a_J14_append f_a_J14_ensureCapacityInternal
  dsimp only
  have k4 : gK g ba = 103 := by show gT g ba % 1000 = 103; rw [h4]
  have sh := sh_0 (gN g ba) (by omega)
  rw [if_pos h1, if_pos h1, if_pos h1, h3, Option.bind_some, if_pos k4, h8, show Int32.ofNat (gN g ba) = nI (gN g ba) from rfl, show (nI 0 : Int32) = 0 from rfl, sh.1, h9, nl_1, nI_add]
  have ycan : ∀ (g' : CG) (c' : CC), f_c_J9_canEncode g' (nI y) c' = some (1, c') := fun g' c' => by
    unfold f_c_J9_canEncode
    rw [if_neg (by show ¬ nI 255 < nI y; rw [nI_ltI (by omega) (by omega)]; omega)]
  by_cases e : k + 1 ≤ gN g ba
  · have e0 : nI (k + 1) - nI (gN g ba) ≤ 0 := by
      rw [i32_le, pk_sub_toInt (by omega) (by omega)]
      have : (0 : Int32).toInt = 0 := by decide
      omega
    rw [if_pos e0, Option.bind_some]
    unfold f_c_J14_isLatin1
    dsimp only
    rw [if_pos h1, if_pos h1, h8, if_pos (show nI 0 = 0 from rfl), xbd_some, if_neg (by decide), ycan, xbd_some, if_neg (by decide), h3, Option.bind_some, if_pos h4, h9, if_pos (xin_nI (show k < gN g ba by omega) (by omega)), nI_add, nI_clamp (show k < 2 ^ 31 by omega), b8_b y hy, xbd_some]
    refine OK_some ⟨ba, ⟨h1, h2, h3, h4, by show _ ≤ gN g ba; omega, h6, by show gN g ba ≤ _; omega, ?_, ?_, fun i hi => ?_⟩, Or.inl ⟨rfl, rfl⟩, AgG.refl _ _ _, fun a a1 a2 a3 => ((Eq1.refl c a).uI a2).uA a3, by show grc g ≤ grc g + 1; omega, Nat.le_refl _⟩
    · show cI (uA (uI c 2003 s _) ba k _) 2001 s = _
      rw [cI_uA, cI_uI, if_neg (by omega)]; exact h8
    · show cI (uA (uI c 2003 s _) ba k _) 2003 s = _
      rw [cI_uA, cI_uI, if_pos ⟨rfl, rfl⟩]
    · show cA (uA (uI c 2003 s _) ba k _) ba i = _ ∧ _
      rw [cA_uA, cA_uI]
      unfold updN
      by_cases ei : i = k
      · rw [if_pos ⟨rfl, ei⟩, if_pos ei]; exact ⟨rfl, hy⟩
      · rw [if_neg (fun q => ei q.2), if_neg ei]
        exact h10 i (by omega)
  · have ek : k = gN g ba := by omega
    have e0 : ¬ nI (k + 1) - nI (gN g ba) ≤ 0 := by
      rw [i32_le, pk_sub_toInt (by omega) (by omega)]
      have : (0 : Int32).toInt = 0 := by decide
      omega
    rw [if_neg e0, Option.bind_some]
    unfold f_c_J14_newCapacity
    have s1 := sh_0 (k + 1) (by omega)
    have s2 : (2 : Int32) <<< ((0 : Int32) &&& 31) = nI 2 := (sh_0 2 (by omega)).2
    rw [if_pos h1, h3, Option.bind_some, if_pos k4, h8, show (nI 0 : Int32) = 0 from rfl, s1.2, s2, show Int32.ofNat (gN g ba) = nI (gN g ba) from rfl, ← ek, pk_sub (by omega), show k + 1 - k = 1 by omega, nI_add, C_newLen (by omega) (by omega) (by omega) (by omega), if_pos (show 1 < k + 2 by omega), xbd_some]
    generalize hN : k + (k + 2) = N at *
    have s3 := sh_0 N (by omega)
    rw [if_neg (by show ¬ nI N = nI 2147483647; rw [nI_eq (by omega) (by omega)]; omega), h8, show (nI 0 : Int32) = 0 from rfl, s3.1, xbd_some, h8, show (nI 0 : Int32) = 0 from rfl, s3.2]
    unfold f_a_J13_copyOf_3
    dsimp only
    rw [if_pos k4, ← ek, show Int32.ofNat k = nI k from rfl, if_neg (by rw [nI_eq (by omega) (by omega)]; omega), aArr_ok (τ := (g, c)) (t := 103) (n := N) (by dsimp only; omega) (by dsimp only; omega) (by omega), xbd_some]
    dsimp only
    generalize hz : gz g = z at *
    have tz : ∀ a, a ≠ z → gT (nG g 103 N N) a = gT g a := fun a ha => by rw [nG_T, hz, if_neg ha]
    have nz : ∀ a, a ≠ z → gN (nG g 103 N N) a = gN g a := fun a ha => by rw [nG_N, hz, if_neg ha]
    have tzz : gT (nG g 103 N N) z = 103 := by rw [nG_T, hz, if_pos rfl]
    have nzz : gN (nG g 103 N N) z = N := by rw [nG_N, hz, if_pos rfl]
    have q2 : ∀ a, a ≠ z → Eq1 c (zC c z) a := fun a ha => zC_e ha
    have kb2 : gK (nG g 103 N N) ba = 103 := by show gT _ _ % 1000 = 103; rw [tz ba (by omega), h4]
    rw [if_pos kb2, nz ba (by omega), ← ek, show Int32.ofNat k = nI k from rfl, C_min, xbd_some, if_neg (show ¬ nI N < nI k by rw [nI_ltI (by omega) (by omega)]; omega), tz ba (by omega), if_pos h4, nzz, show (0 : Int32).toNatClampNeg = 0 by decide, nI_clamp (show k < 2 ^ 31 by omega), if_pos (by
      unfold xcp
      rw [show (0 : Int32).toNatClampNeg = 0 by decide, nI_clamp (show k < 2 ^ 31 by omega)]
      have : (0 : Int32) ≤ nI k := by show nI 0 ≤ nI k; rw [nI_leI (by omega) (by omega)]; omega
      simp [this]; omega), if_pos (by
      unfold xcpB
      rw [List.all_eq_true]
      intro i hi
      have hi : i < k := by simpa using hi
      rw [Nat.zero_add, (q2 ba (by omega)).2.2.2.1, (h10 i hi).1]
      exact fit_b _ (h10 i hi).2), xbd_some, tz s (by omega), if_pos h1, Option.bind_some]
    have cpe : ∀ a, a ≠ z → Eq1 (zC c z) (cpA (zC c z) ba z 0 0 k) a := fun a ha => ⟨fun _ => rfl, fun _ => rfl, fun _ => rfl, fun i => if_neg ha, fun _ => rfl, fun i => rfl⟩
    have cpz : ∀ i, i < k → cA (cpA (zC c z) ba z 0 0 k) z i = nI (sg i) := fun i hi => by
      show (if z = z then va_cpy _ _ 0 0 k i else _) = _
      rw [if_pos rfl]
      unfold va_cpy
      rw [if_pos (by omega), show 0 + (i - 0) = i by omega]
      show cA (zC c z) ba i = _
      rw [(q2 ba (by omega)).2.2.2.1]; exact (h10 i hi).1
    generalize hc2 : cpA (zC c z) ba z 0 0 k = c2 at *
    have q3 : ∀ a, a ≠ z → Eq1 c c2 a := fun a ha => (q2 a ha).trans (cpe a ha)
    have i1 : cI (uR c2 2000 s (some z)) 2001 s = nI 0 := by rw [cI_uR, (q3 s (by omega)).1]; exact h8
    have i3 : cI (uR c2 2000 s (some z)) 2003 s = nI k := by rw [cI_uR, (q3 s (by omega)).1]; exact h9
    have i0 : cR (uR c2 2000 s (some z)) 2000 s = some z := by rw [cR_uR, if_pos ⟨rfl, rfl⟩]
    unfold f_c_J14_isLatin1
    dsimp only
    rw [tz s (by omega), if_pos h1, if_pos h1, i1, if_pos (show nI 0 = 0 from rfl), xbd_some, if_neg (by decide), ycan, xbd_some, if_neg (by decide), i0, Option.bind_some, if_pos tzz, i3, nzz, if_pos (xin_nI (show k < N by omega) (by omega)), nI_add, nI_clamp (show k < 2 ^ 31 by omega), b8_b y hy, xbd_some]
    refine OK_some ⟨z, ⟨by show gT (nG _ _ _ _) s = 20; rw [tz s (by omega)]; exact h1, by omega, ?_, tzz, by rw [nzz]; omega, by rw [nzz]; omega, by rw [nzz]; omega, ?_, ?_, fun i hi => ?_⟩, Or.inr ⟨rfl, by show gz (nG _ _ _ _) = _; rw [nG_z, hz]⟩, fun a _ h2 => ⟨tz a (by omega), nz a (by omega), fun j => by show gR (nG _ _ _ _) j a = _; rw [nG_R, hz, if_neg (by omega)], fun i => rfl⟩, fun a a1 a2 a3 => ?_, ?_, ?_⟩
    · show cR (uA (uI (uR c2 2000 s (some z)) 2003 s _) z k _) 2000 s = _
      rw [cR_uA, cR_uI]; exact i0
    · show cI (uA (uI (uR c2 2000 s (some z)) 2003 s _) z k _) 2001 s = _
      rw [cI_uA, cI_uI, if_neg (by omega)]; exact i1
    · show cI (uA (uI (uR c2 2000 s (some z)) 2003 s _) z k _) 2003 s = _
      rw [cI_uA, cI_uI, if_pos ⟨rfl, rfl⟩]
    · show cA (uA (uI (uR c2 2000 s (some z)) 2003 s _) z k _) z i = _ ∧ _
      rw [cA_uA, cA_uI, cA_uR]
      unfold updN
      by_cases ei : i = k
      · rw [if_pos ⟨rfl, ei⟩, if_pos ei]; exact ⟨rfl, hy⟩
      · rw [if_neg (fun q => ei q.2), if_neg ei]
        exact ⟨cpz i (by omega), (h10 i (by omega)).2⟩
    · exact (((q3 a (by omega)).uR a2).uI a2).uA (by omega)
    · show grc g ≤ grc (nG _ _ _ _) + 1
      rw [nG_c]; omega
    · show grs g + 2 * k ≤ grs (nG _ _ _ _) + 2 * gN (nG g 103 N N) z
      rw [nG_s, nzz]; omega
end ZZA2
