/-! PLAIN LAW: names and hashes of the component -/
set_option maxRecDepth 100000
/-- a text's hash -/
def hN (L : List Nat) : Nat → Int32
  | 0 => 0
  | k + 1 => 31 * hN L k + nI (L.getD k 0)
def hH (L : List Nat) : Int32 := hN L L.length
/-- the hash of a text is right, or not told yet -/
def HOK (c : CC) (s : Nat) (L : List Nat) : Prop := cI c 1902 s = hH L ∨ (cI c 1902 s = 0 ∧ cI c 1903 s = 0)
theorem and255 : ∀ x, x < 128 → (nI x) &&& 255 = nI x := by decide +kernel
section ZZY1
variable {X n V a : Nat} {B : Nat → Nat} {τ τ1 : CS} {g : CG} {c : CC} {s : Nat} {L : List Nat}
theorem C_hashL {b : Nat} (hb : gK g b = 103) (hN1 : gN g b = L.length) (hc : ∀ i, i < L.length → cA c b i = nI (L.getD i 0)) (hl : lts L) (h16 : L.length < 2000) : f_c_J10_signedHashCode g 0 b 0 (nI L.length) c = some (hH L, c) := by
  have key : OK (itr (fun s_ : Int32 × Int32 × CC => Bc_J10_signedHashCode_8 g b (nI L.length) s_.1 s_.2.1 s_.2.2) 4096 (0, nI 0, c)) (fun o => o = (hH L, c)) := by
    refine itr_for (fun i st => st = (hN L i, nI i, c)) _ 0 L.length ?_ ?_ (by omega) (by omega) rfl
    · rintro i st - hi rfl
      have hx := hl i hi
      show OK (Bc_J10_signedHashCode_8 g b (nI L.length) (hN L i) (nI i) c) _
      unfold Bc_J10_signedHashCode_8
      rw [if_neg (by rw [nI_leI (by omega) (by omega)]; omega), if_pos hb, hN1, if_pos (xin_nI hi (by omega)), nI_clamp (show i < 2 ^ 31 by omega), hc i hi, and255 _ (by omega), nl_1, nI_add]
      exact OK_some (Or.inl ⟨_, rfl, rfl⟩)
    · rintro st rfl
      show OK (Bc_J10_signedHashCode_8 g b (nI L.length) (hN L L.length) (nI L.length) c) _
      unfold Bc_J10_signedHashCode_8
      rw [if_pos (by rw [nI_leI (by omega) (by omega)]; omega)]
      exact OK_some ⟨_, rfl, rfl⟩
  obtain ⟨o, eo, rfl⟩ := key
  unfold f_c_J10_signedHashCode
  rw [show (0 : Int32) + nI L.length = nI L.length by show nI 0 + nI L.length = _; rw [nI_add]; congr 1; omega]
  have eo' : itr (fun s_ : Int32 × Int32 × CC => Bc_J10_signedHashCode_8 g b (nI L.length) s_.1 s_.2.1 s_.2.2) 4096 (0, 0, c) = _ := eo
  rw [eo', Option.bind_some]
theorem C_hash (hS : Str g c s L) (hT : gT g s = 19) (hl : lts L) (h0 : 1 ≤ L.length) (hh : HOK c s L) : ∃ c', f_c_J6_hashCode g s c = some (hH L, c') ∧ (∀ b, b ≠ s → Eq1 c c' b) ∧ (∀ k, k ≠ 1902 → k ≠ 1903 → cI c' k s = cI c k s) ∧ HOK c' s L := by
  obtain ⟨s1, s2, s3, b, s4, s5, s6, s7⟩ := hS
  unfold f_c_J6_hashCode
  rw [if_pos s1]
  by_cases e : cI c 1902 s = 0
  · rw [if_pos e]
    by_cases e3 : cI c 1903 s = 0
    · rw [if_pos e3]
      have hlat : f_c_J6_isLatin1 g s c = some (1, c) := by
        unfold f_c_J6_isLatin1
        rw [if_pos s1, s2, if_pos (show nI 0 = 0 from rfl)]
      have h9 : f_c_J9_hashCode g b c = some (hH L, c) := by
        unfold f_c_J9_hashCode
        rw [if_pos s5, s6, show Int32.ofNat L.length = nI L.length from rfl, if_neg (by show ¬ nI L.length = nI 0; rw [nI_eq (by omega) (by omega)]; omega)]
        by_cases e1 : L.length = 1
        · have hx := hl 0 (by omega)
          rw [if_pos (by rw [e1]; rfl), if_pos (by rw [e1]; decide), show (0 : Int32).toNatClampNeg = 0 by decide, s7 0 (by omega), and255 _ (by omega)]
          unfold hH
          rw [e1]
          show some (nI (L.getD 0 0), c) = some (31 * 0 + nI (L.getD 0 0), c)
          rw [show (31 : Int32) * 0 + nI (L.getD 0 0) = nI (L.getD 0 0) by rw [Int32.mul_zero, Int32.zero_add]]
        · rw [if_neg (by show ¬ nI L.length = nI 1; rw [nI_eq (by omega) (by omega)]; exact e1)]
          unfold f_c_J10_vectorizedHashCode
          rw [if_pos rfl, if_pos s5, C_hashL s5 s6 s7 hl s3, xbd_some, xbd_some]
      rw [hlat, xbd_some, if_neg (by decide), s4, Option.bind_some, h9, xbd_some]
      unfold Jc_J6_hashCode_40
      by_cases eh : hH L = 0
      · rw [if_pos eh, if_pos hT]
        refine ⟨_, rfl, fun b hb => (Eq1.refl c b).uI hb, fun k k1 k2 => by rw [cI_uI, if_neg (fun z => k2 z.1)], Or.inl ?_⟩
        rw [cI_uI, if_neg (by omega), e, eh]
      · rw [if_neg eh, if_pos hT]
        refine ⟨_, rfl, fun b hb => (Eq1.refl c b).uI hb, fun k k1 k2 => by rw [cI_uI, if_neg (fun z => k1 z.1)], Or.inl ?_⟩
        rw [cI_uI, if_pos ⟨rfl, rfl⟩]
    · rw [if_neg e3]
      rcases hh with hh | hh
      · exact ⟨c, by rw [hh], fun b _ => Eq1.refl c b, fun _ _ _ => rfl, Or.inl hh⟩
      · exact absurd hh.2 e3
  · rw [if_neg e]
    rcases hh with hh | hh
    · exact ⟨c, by rw [hh], fun b _ => Eq1.refl c b, fun _ _ _ => rfl, Or.inl hh⟩
    · exact absurd hh.1 e
/-- a name, the component's -/
theorem C_name (hP : PI τ X n B a 0) (hc : 3 ≤ grc τ.1) (hs : 2 * n + 4 ≤ grs τ.1) : OK (f_x_X2_name (X + 28) τ) (fun r => PF X τ r.2 ∧ grc τ.1 ≤ grc r.2.1 + 3 * wl B n (sk B n a) ∧ grs τ.1 ≤ grs r.2.1 + 6 * wl B n (sk B n a) ∧ (∀ k p, nmR B n (sk B n a) = .inl (k, p) → r.1 = .inr (X + 29) ∧ FLT r.2.2 X k p) ∧ (∀ e, nmR B n (sk B n a) = .inr e → r.1 = .inl (gz τ.1 + 1) ∧ PI r.2 X n B e 0 ∧ nmL (wd B n (sk B n a)) ∧ (wd B n (sk B n a)).length = e - sk B n a ∧ sk B n a < e ∧ Str r.2.1 r.2.2 (gz τ.1 + 1) (wd B n (sk B n a)) ∧ gR r.2.1 1900 (gz τ.1 + 1) = some (gz τ.1 + 2) ∧ gz r.2.1 = gz τ.1 + 3 ∧ cI r.2.2 303 (X + 28) = nI (sk B n a))) := by
  obtain ⟨⟨rr, τ7⟩, e7, p7, q7, n7⟩ := C_word hP.1 hc hs
  dsimp only at p7 q7 n7
  unfold f_x_X2_name
  rw [if_pos hP.1.1.2.2.1, e7]
  cases hok : okW B n (sk B n a) with
  | false =>
    obtain ⟨m1, m2, m3⟩ := n7 hok
    subst m1
    have gg : grc τ7.1 = grc τ.1 ∧ grs τ7.1 = grs τ.1 := by rw [m3]; exact ⟨rfl, rfl⟩
    have hnm : nmR B n (sk B n a) = .inl (1, sk B n a) := by unfold nmR; rw [if_pos (Or.inl hok)]
    rw [xbx_r]
    refine OK_some ⟨p7, by dsimp only; omega, by dsimp only; omega, fun k p hk => ?_, fun e he => by rw [hnm] at he; cases he⟩
    rw [hnm] at hk
    have hk : (1, sk B n a) = (k, p) := by injection hk
    cases hk
    exact ⟨rfl, m2⟩
  | true =>
    obtain ⟨m1, m2, m3, m4, m5, m6, m7, m8⟩ := q7 hok
    subst m1
    obtain ⟨w1, w2, w3⟩ := okW_gt hok
    have ewl : wl B n (sk B n a) = we B n (sk B n a) - sk B n a := by unfold wl; rw [if_pos hok]
    have pi7 : PI τ7 X n B (we B n (sk B n a)) 0 := hP.pf p7 m2
    obtain ⟨⟨r8, c8⟩, e8, q8, f8⟩ := C_find (k := 0) pi7.2.2.1 ok_own (by decide) m3 w3
    have q8 : c8 = τ7.2 := q8
    subst q8
    have f9 : fndR ownL (wd B n (sk B n a)) r8 := f8
    clear f8
    rw [xbx_l, e8, xbd_some]
    have hcst : grc τ.1 ≤ grc τ7.1 + 3 * wl B n (sk B n a) ∧ grs τ.1 ≤ grs τ7.1 + 6 * wl B n (sk B n a) := by omega
    rcases f9 with ⟨k, k1, rfl, k2, k3⟩ | ⟨rfl, k1⟩
    · have k1 : k < 33 := k1
      have hnm : nmR B n (sk B n a) = .inl (1, sk B n a) := by unfold nmR; rw [if_pos (Or.inr ⟨k, k1, k2⟩)]
      rw [if_neg (nI_m (by omega)), if_pos pi7.1.1.2.2.1, m5, C_wrong pi7.1.1, xbd_some, if_pos pi7.1.1.2.2.2.2.1]
      refine OK_some ⟨p7.trans ((PR.refl (X := X)).u29.u29).pf, hcst.1, hcst.2, fun k p hk => ?_, fun e he => by rw [hnm] at he; cases he⟩
      rw [hnm] at hk
      have hk : (1, sk B n a) = (k, p) := by injection hk
      cases hk
      exact ⟨rfl, FLT.mk⟩
    · have hnm : nmR B n (sk B n a) = if 6 < we B n (sk B n a) - sk B n a then .inl (1, sk B n a + 6) else .inr (we B n (sk B n a)) := by
        unfold nmR
        rw [if_neg (by
          rintro (z | ⟨i, i1, i2⟩)
          · rw [hok] at z; cases z
          · exact k1 i i1 i2)]
      have hw := wd_len (B := B) (n := n) (a := sk B n a)
      rw [if_pos rfl, if_pos m3.1, C_len m3, xbd_some, hw]
      by_cases h6 : 6 < we B n (sk B n a) - sk B n a
      · rw [if_pos h6] at hnm
        rw [if_neg (by show ¬ nI _ ≤ nI 6; rw [nI_leI (by omega) (by omega)]; omega), if_pos pi7.1.1.2.2.1, m5, show (6 : Int32) = nI 6 from rfl, nI_add, C_wrong pi7.1.1, xbd_some, if_pos pi7.1.1.2.2.2.2.1]
        refine OK_some ⟨p7.trans ((PR.refl (X := X)).u29.u29).pf, hcst.1, hcst.2, fun k p hk => ?_, fun e he => by rw [hnm] at he; cases he⟩
        rw [hnm] at hk
        have hk : (1, sk B n a + 6) = (k, p) := by injection hk
        cases hk
        exact ⟨rfl, FLT.mk⟩
      · rw [if_neg h6] at hnm
        rw [if_pos (by show nI _ ≤ nI 6; rw [nI_leI (by omega) (by omega)]; omega)]
        refine OK_some ⟨p7, hcst.1, hcst.2, (fun k p hk => by rw [hnm] at hk; cases hk), fun e he => ?_⟩
        rw [hnm] at he
        have he : we B n (sk B n a) = e := by injection he
        subst he
        exact ⟨rfl, pi7, ⟨w3, by omega, by omega⟩, hw, w1, m3, m4.2.1, m6, m5⟩
end ZZY1
/-- names that are alike as numbers are alike -/
theorem valN_inj {L L' : List Nat} (h : lts L) (h' : lts L') : ∀ k k', k ≤ L.length → k' ≤ L'.length → valN L k = valN L' k' → k = k' ∧ ∀ i, i < k → L.getD i 0 = L'.getD i 0
  | 0, k', h1, h2, e => by
    have : k' = 0 := by
      rcases Nat.eq_zero_or_pos k' with z | z
      · exact z
      · have := (valN_b h' k' h2).2 z
        have e : 0 = valN L' k' := e
        omega
    exact ⟨this.symm, fun i hi => absurd hi (Nat.not_lt_zero i)⟩
  | k + 1, k', h1, h2, e => by
    have hp := (valN_b h (k + 1) h1).2 (by omega)
    rcases k' with _ | k'
    · have e : valN L (k + 1) = 0 := e
      omega
    · obtain ⟨d1, d2⟩ := valN_d h (k := k) (by omega)
      obtain ⟨d3, d4⟩ := valN_d h' (k := k') (by omega)
      rw [e] at d1 d2
      obtain ⟨r1, r2⟩ := valN_inj h h' k k' (by omega) (by omega) (by rw [← d1, ← d3])
      subst r1
      refine ⟨rfl, fun i hi => ?_⟩
      by_cases ei : i = k
      · subst ei
        have := h i (by omega)
        have := h' i (by omega)
        omega
      · exact r2 i (by omega)
theorem valN_eq {L L' : List Nat} (h : nmL L) (h' : nmL L') (e : valN L L.length = valN L' L'.length) : L = L' := by
  obtain ⟨r1, r2⟩ := valN_inj h.1 h'.1 L.length L'.length (Nat.le_refl _) (Nat.le_refl _) e
  apply List.ext_getElem r1
  intro i h1 h2
  have := r2 i h1
  rw [List.getD_eq_getElem?_getD, List.getElem?_eq_getElem h1, List.getD_eq_getElem?_getD, List.getElem?_eq_getElem h2] at this
  exact this
