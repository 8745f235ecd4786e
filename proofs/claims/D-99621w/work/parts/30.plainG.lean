/-! PLAIN LAW: a state is copied -/
set_option maxRecDepth 100000
/-- alike but for a state -/
def CS1 (s : Nat) (c c' : CC) : Prop := ∀ a, ¬ (s ≤ a ∧ a < s + 68) → Eq1 c c' a
theorem CS1.refl (s : Nat) (c : CC) : CS1 s c c := fun a _ => Eq1.refl c a
theorem CS1.trans {s : Nat} {c c' c'' : CC} (h : CS1 s c c') (h' : CS1 s c' c'') : CS1 s c c'' := fun a h1 => (h a h1).trans (h' a h1)
theorem CS1.uA {s b i : Nat} {c c' : CC} {x : Int32} (h : CS1 s c c') (hb : s ≤ b ∧ b < s + 68) : CS1 s c (uA c' b i x) := fun a h2 => (h a h2).uA (fun e => h2 (by rw [e]; exact hb))
theorem CS1.uI {s b i : Nat} {c c' : CC} {x : Int32} (h : CS1 s c c') (hb : s ≤ b ∧ b < s + 68) : CS1 s c (uI c' i b x) := fun a h2 => (h a h2).uI (fun e => h2 (by rw [e]; exact hb))
theorem CS1.cf {X s : Nat} {c c' : CC} (h : CS1 s c c') : CF X s c c' := fun a _ h2 => h a h2
section CC2
variable {g : CG} {c : CC} {X s o : Nat}
theorem C_copy46 {k : Nat} (hs : StG g s X) (ho : StG g o X) (hd : s + 68 ≤ o ∨ o + 68 ≤ s) (hk : k < 10) : OK (itr (fun s_ : Int32 × CC => Bc_X5_copy_46 g s o (nI k) s_.1 s_.2) 4096 (0, c)) (fun c' => (∀ a, a ≠ s + 5 + k → a ≠ s + 16 + k → Eq1 c c' a) ∧ (∀ r, r < 8 → cA c' (s + 5 + k) r = cA c (o + 5 + k) r ∧ cA c' (s + 16 + k) r = cA c (o + 16 + k) r)) := by
  obtain ⟨a1, a2, a3, a4⟩ := hs.2.2.2.2.2.1
  obtain ⟨b1, b2, b3, b4⟩ := hs.2.2.2.2.2.2.1
  obtain ⟨d1, d2, d3, d4⟩ := ho.2.2.2.2.2.1
  obtain ⟨e1, e2, e3, e4⟩ := ho.2.2.2.2.2.2.1
  have ik : xin (nI k) 10 = true := xin_nI hk (by omega)
  have ck : (nI k).toNatClampNeg = k := nI_clamp (by omega)
  refine itr_for (fun r p => ∃ c', p = (nI r, c') ∧ (∀ a, a ≠ s + 5 + k → a ≠ s + 16 + k → Eq1 c c' a) ∧ ∀ q, q < r → cA c' (s + 5 + k) q = cA c (o + 5 + k) q ∧ cA c' (s + 16 + k) q = cA c (o + 16 + k) q) _ 0 8 ?_ ?_ (by omega) (by omega) ⟨c, rfl, fun a _ _ => Eq1.refl c a, fun q hq => absurd hq (Nat.not_lt_zero q)⟩
  · rintro r p - hr ⟨c', rfl, he, hv⟩
    show OK (Bc_X5_copy_46 g s o (nI k) (nI r) c') _
    unfold Bc_X5_copy_46
    have h2 : ¬ nI 8 ≤ nI r := by rw [nI_leI (by omega) (by omega)]; omega
    simp only [nl_8, nl_1, h2, hs.1, ho.1, a1, a2, a3, b1, b2, b3, d1, d2, d3, e1, e2, e3, ik, ck, (a4 k hk).1, (a4 k hk).2.1, (a4 k hk).2.2, (b4 k hk).1, (b4 k hk).2.1, (b4 k hk).2.2, (d4 k hk).1, (d4 k hk).2.1, (d4 k hk).2.2, (e4 k hk).1, (e4 k hk).2.1, (e4 k hk).2.2, xin_nI (show r < 8 from hr) (show 8 < 2147483648 by omega), nI_clamp (show r < 2 ^ 31 by omega), nI_add, reduceIte, Option.bind_some]
    refine ⟨_, rfl, Or.inl ⟨_, rfl, _, rfl, fun a h1 h3 => ((he a h1 h3).uA h1).uA h3, fun q hq => ?_⟩⟩
    rw [cA_uA, cA_uA, cA_uA, cA_uA, cA_uA]
    rw [if_neg (show ¬ (s + 5 + k = s + 16 + k ∧ q = r) by omega), if_neg (show ¬ (o + 16 + k = s + 5 + k ∧ r = r) by omega), if_neg (show ¬ (s + 16 + k = s + 5 + k ∧ q = r) by omega)]
    by_cases e : q = r
    · subst e
      rw [if_pos ⟨rfl, rfl⟩, if_pos ⟨rfl, rfl⟩, (he (o + 5 + k) (by omega) (by omega)).2.2.2.1, (he (o + 16 + k) (by omega) (by omega)).2.2.2.1]
      exact ⟨rfl, rfl⟩
    · rw [if_neg (by omega), if_neg (by omega)]
      exact hv q (by omega)
  · rintro p ⟨c', rfl, he, hv⟩
    show OK (Bc_X5_copy_46 g s o (nI k) (nI 8) c') _
    unfold Bc_X5_copy_46
    have h2 : nI 8 ≤ nI 8 := by decide
    simp only [nl_8, h2, reduceIte]
    exact ⟨_, rfl, _, rfl, he, hv⟩
theorem C_copy26 (hs : StG g s X) (ho : StG g o X) (hd : s + 68 ≤ o ∨ o + 68 ≤ s) : OK (itr (fun s_ : Int32 × CC => Bc_X5_copy_26 g s o s_.1 s_.2) 4096 (0, c)) (fun c' => (∀ a, ¬ (a = s + 1 ∨ (s + 5 ≤ a ∧ a < s + 26)) → Eq1 c c' a) ∧ (∀ i, i < 10 → cA c' (s + 1) i = cA c (o + 1) i) ∧ ∀ i r, i < 10 → r < 8 → cA c' (s + 5 + i) r = cA c (o + 5 + i) r ∧ cA c' (s + 16 + i) r = cA c (o + 16 + i) r) := by
  refine itr_for (fun k p => ∃ c', p = (nI k, c') ∧ (∀ a, ¬ (a = s + 1 ∨ (s + 5 ≤ a ∧ a < s + 26)) → Eq1 c c' a) ∧ (∀ i, i < k → cA c' (s + 1) i = cA c (o + 1) i) ∧ ∀ i r, i < k → r < 8 → cA c' (s + 5 + i) r = cA c (o + 5 + i) r ∧ cA c' (s + 16 + i) r = cA c (o + 16 + i) r) _ 0 10 ?_ ?_ (by omega) (by omega) ⟨c, rfl, fun a _ => Eq1.refl c a, fun i hi => absurd hi (Nat.not_lt_zero i), fun i r hi => absurd hi (Nat.not_lt_zero i)⟩
  · rintro k p - hk ⟨c', rfl, he, hv, hw⟩
    show OK (Bc_X5_copy_26 g s o (nI k) c') _
    unfold Bc_X5_copy_26
    have h2 : ¬ nI 10 ≤ nI k := by rw [nI_leI (by omega) (by omega)]; omega
    simp only [nl_10, nl_1, h2, hs.1, ho.1, hs.2.2.1.1, hs.2.2.1.2.1, hs.2.2.1.2.2, ho.2.2.1.1, ho.2.2.1.2.1, ho.2.2.1.2.2, xin_nI (show k < 10 from hk) (show 10 < 2147483648 by omega), nI_clamp (show k < 2 ^ 31 by omega), nI_add, reduceIte, Option.bind_some]
    refine OK_bind (C_copy46 hs ho hd hk) (fun c2 h3 => ⟨_, rfl, Or.inl ⟨_, rfl, c2, rfl, fun a ha => ?_, fun i hi => ?_, fun i r hi hr => ?_⟩⟩)
    · exact ((he a ha).uA (by omega)).trans (h3.1 a (by omega) (by omega))
    · rw [(h3.1 (s + 1) (by omega) (by omega)).2.2.2.1, cA_uA]
      by_cases e : i = k
      · subst e
        rw [if_pos ⟨rfl, rfl⟩, (he (o + 1) (by omega)).2.2.2.1]
      · rw [if_neg (by omega)]
        exact hv i (by omega)
    · by_cases e : i = k
      · subst e
        obtain ⟨q1, q2⟩ := h3.2 r hr
        rw [q1, q2, cA_uA, cA_uA, if_neg (by omega), if_neg (by omega), (he (o + 5 + i) (by omega)).2.2.2.1, (he (o + 16 + i) (by omega)).2.2.2.1]
        exact ⟨rfl, rfl⟩
      · rw [(h3.1 (s + 5 + i) (by omega) (by omega)).2.2.2.1, (h3.1 (s + 16 + i) (by omega) (by omega)).2.2.2.1, cA_uA, cA_uA, if_neg (by omega), if_neg (by omega)]
        exact hw i r (by omega) hr
  · rintro p ⟨c', rfl, he, hv, hw⟩
    show OK (Bc_X5_copy_26 g s o (nI 10) c') _
    unfold Bc_X5_copy_26
    have h2 : nI 10 ≤ nI 10 := by decide
    simp only [nl_10, h2, reduceIte]
    exact ⟨_, rfl, _, rfl, he, hv, hw⟩
theorem C_copy98 (hs : StG g s X) (ho : StG g o X) (hd : s + 68 ≤ o ∨ o + 68 ≤ s) : OK (itr (fun s_ : Int32 × CC => Bc_X5_copy_98 g s o s_.1 s_.2) 4096 (0, c)) (fun c' => (∀ a, ¬ (a = s + 2 ∨ a = s + 3 ∨ a = s + 67) → Eq1 c c' a) ∧ ∀ i, i < 5 → cA c' (s + 2) i = cA c (o + 2) i ∧ cA c' (s + 3) i = cA c (o + 3) i &&& nI 1 ∧ cA c' (s + 67) i = nI 0) := by
  obtain ⟨a1, a2, a3⟩ := hs.2.2.2.1
  obtain ⟨b1, b2, b3⟩ := hs.2.2.2.2.1
  obtain ⟨d1, d2, d3⟩ := ho.2.2.2.1
  obtain ⟨e1, e2, e3⟩ := ho.2.2.2.2.1
  obtain ⟨f1, f2, f3⟩ := hs.2.2.2.2.2.2.2.2
  refine itr_for (fun k p => ∃ c', p = (nI k, c') ∧ (∀ a, ¬ (a = s + 2 ∨ a = s + 3 ∨ a = s + 67) → Eq1 c c' a) ∧ ∀ i, i < k → cA c' (s + 2) i = cA c (o + 2) i ∧ cA c' (s + 3) i = cA c (o + 3) i &&& nI 1 ∧ cA c' (s + 67) i = nI 0) _ 0 5 ?_ ?_ (by omega) (by omega) ⟨c, rfl, fun a _ => Eq1.refl c a, fun i hi => absurd hi (Nat.not_lt_zero i)⟩
  · rintro k p - hk ⟨c', rfl, he, hv⟩
    show OK (Bc_X5_copy_98 g s o (nI k) c') _
    unfold Bc_X5_copy_98
    have h2 : ¬ nI 5 ≤ nI k := by rw [nI_leI (by omega) (by omega)]; omega
    simp only [nl_5, nl_0, nl_1, h2, hs.1, ho.1, a1, a2, a3, b1, b2, b3, d1, d2, d3, e1, e2, e3, f1, f2, f3, xin_nI (show k < 5 from hk) (show 5 < 2147483648 by omega), nI_clamp (show k < 2 ^ 31 by omega), nI_add, reduceIte, Option.bind_some]
    refine ⟨_, rfl, Or.inl ⟨_, rfl, _, rfl, fun a ha => (((he a ha).uA (by omega)).uA (by omega)).uA (by omega), fun i hi => ?_⟩⟩
    have n1 : ¬ s + 2 = s + 67 := by omega
    have n2 : ¬ s + 2 = s + 3 := by omega
    have n3 : ¬ s + 3 = s + 67 := by omega
    have n4 : ¬ s + 3 = s + 2 := by omega
    have n5 : ¬ s + 67 = s + 3 := by omega
    have n6 : ¬ s + 67 = s + 2 := by omega
    have n7 : ¬ o + 3 = s + 2 := by omega
    simp only [cA_uA, n1, n2, n3, n4, n5, n6, n7, false_and, true_and, reduceIte, (he (o + 2) (by omega)).2.2.2.1, (he (o + 3) (by omega)).2.2.2.1]
    by_cases e : i = k
    · subst e
      simp only [and_self, reduceIte]
    · simp only [e, and_false, reduceIte]
      exact hv i (by omega)
  · rintro p ⟨c', rfl, he, hv⟩
    show OK (Bc_X5_copy_98 g s o (nI 5) c') _
    unfold Bc_X5_copy_98
    have h2 : nI 5 ≤ nI 5 := by decide
    simp only [nl_5, h2, reduceIte]
    exact ⟨_, rfl, _, rfl, he, hv⟩
theorem C_copy152 {k ρ σ : Nat} (hs : StG g s X) (ho : StG g o X) (hd : s + 68 ≤ o ∨ o + 68 ≤ s) (hk : k < 40) (hρ : ρ < 40) (hσ : σ < 40) (h1 : cP c (s + 26) k = some (s + 27 + ρ)) (h2 : cP c (o + 26) k = some (o + 27 + σ)) : OK (itr (fun s_ : Int32 × CC => Bc_X5_copy_152 g s o (nI k) s_.1 s_.2) 4096 (0, c)) (fun c' => (∀ a, a ≠ s + 27 + ρ → Eq1 c c' a) ∧ ∀ j, j < 3 → cA c' (s + 27 + ρ) j = cA c (o + 27 + σ) j) := by
  obtain ⟨a1, a2, a3, a4⟩ := hs.2.2.2.2.2.2.2.1
  obtain ⟨d1, d2, d3, d4⟩ := ho.2.2.2.2.2.2.2.1
  refine itr_for (fun r p => ∃ c', p = (nI r, c') ∧ (∀ a, a ≠ s + 27 + ρ → Eq1 c c' a) ∧ ∀ j, j < r → cA c' (s + 27 + ρ) j = cA c (o + 27 + σ) j) _ 0 3 ?_ ?_ (by omega) (by omega) ⟨c, rfl, fun a _ => Eq1.refl c a, fun q hq => absurd hq (Nat.not_lt_zero q)⟩
  · rintro r p - hr ⟨c', rfl, he, hv⟩
    show OK (Bc_X5_copy_152 g s o (nI k) (nI r) c') _
    unfold Bc_X5_copy_152
    have h3 : ¬ nI 3 ≤ nI r := by rw [nI_leI (by omega) (by omega)]; omega
    have p1 : cP c' (s + 26) k = some (s + 27 + ρ) := by rw [(he (s + 26) (by omega)).2.2.2.2.2]; exact h1
    have p2 : cP c' (o + 26) k = some (o + 27 + σ) := by rw [(he (o + 26) (by omega)).2.2.2.2.2]; exact h2
    simp only [nl_3, nl_1, h3, hs.1, ho.1, a1, a2, a3, d1, d2, d3, p1, p2, (a4 ρ hρ).1, (a4 ρ hρ).2, (d4 σ hσ).1, (d4 σ hσ).2, xin_nI (show k < 40 from hk) (show 40 < 2147483648 by omega), nI_clamp (show k < 2 ^ 31 by omega), xin_nI (show r < 3 from hr) (show 3 < 2147483648 by omega), nI_clamp (show r < 2 ^ 31 by omega), nI_add, reduceIte, Option.bind_some]
    refine ⟨_, rfl, Or.inl ⟨_, rfl, _, rfl, fun a ha => (he a ha).uA ha, fun j hj => ?_⟩⟩
    rw [cA_uA, (he (o + 27 + σ) (by omega)).2.2.2.1]
    by_cases e : j = r
    · subst e; rw [if_pos ⟨rfl, rfl⟩]
    · rw [if_neg (by omega)]; exact hv j (by omega)
  · rintro p ⟨c', rfl, he, hv⟩
    show OK (Bc_X5_copy_152 g s o (nI k) (nI 3) c') _
    unfold Bc_X5_copy_152
    have h3 : nI 3 ≤ nI 3 := by decide
    simp only [nl_3, h3, reduceIte]
    exact ⟨_, rfl, _, rfl, he, hv⟩
theorem C_copy {Ks Ko : Nat} {ρ σ : Nat → Nat} (hs : StG g s X) (ho : StG g o X) (hd : s + 68 ≤ o ∨ o + 68 ≤ s) (ks : RKp c s Ks ρ) (ko : RKp c o Ko σ) :
    OK (f_c_X5_copy g s o c) (fun q => q.1 = s ∧ (∀ nl w, nl ≤ 5 → (∀ k, k < nl → w (172 + 2 * k) = nI 0 ∨ w (172 + 2 * k) = nI 1) → RS c o nl w → RS q.2 s nl w) ∧ RH q.2 s 5 (fun _ => nI 0) ∧ RKp q.2 s Ko ρ ∧ (∀ w, RKw c o Ko σ w → RKw q.2 s Ko ρ w) ∧ CS1 s c q.2) := by
  unfold f_c_X5_copy
  rw [if_pos ho.1, if_pos hs.1]
  have hos : ¬ o = s := by omega
  have e0 : uI (uI (uI c 600 s (cI c 600 o)) 601 s (cI (uI c 600 s (cI c 600 o)) 601 o)) 602 s (cI (uI (uI c 600 s (cI c 600 o)) 601 s (cI (uI c 600 s (cI c 600 o)) 601 o)) 602 o) = uI (uI (uI c 600 s (cI c 600 o)) 601 s (cI c 601 o)) 602 s (nI Ko) := by
    simp only [cI_uI, hos, and_false, reduceIte, ko.1]
  rw [e0]
  have q0 : ∀ a, a ≠ s → Eq1 c (uI (uI (uI c 600 s (cI c 600 o)) 601 s (cI c 601 o)) 602 s (nI Ko)) a := fun a ha => (((Eq1.refl c a).uI ha).uI ha).uI ha
  have i0 : cI (uI (uI (uI c 600 s (cI c 600 o)) 601 s (cI c 601 o)) 602 s (nI Ko)) 600 s = cI c 600 o := by simp [cI_uI]
  have i1 : cI (uI (uI (uI c 600 s (cI c 600 o)) 601 s (cI c 601 o)) 602 s (nI Ko)) 601 s = cI c 601 o := by simp [cI_uI]
  have i2 : cI (uI (uI (uI c 600 s (cI c 600 o)) 601 s (cI c 601 o)) 602 s (nI Ko)) 602 s = nI Ko := by simp [cI_uI]
  generalize uI (uI (uI c 600 s (cI c 600 o)) 601 s (cI c 601 o)) 602 s (nI Ko) = c0 at *
  refine OK_bind (C_copy26 (c := c0) hs ho hd) (fun c1 h1 => ?_)
  refine OK_bind (C_copy98 (c := c1) hs ho hd) (fun c2 h2 => ?_)
  have e12 : ∀ a, (¬ (s ≤ a ∧ a < s + 68) ∨ (s + 26 ≤ a ∧ a < s + 67)) → Eq1 c c2 a := fun a ha => ((q0 a (by omega)).trans (h1.1 a (by omega))).trans (h2.1 a (by omega))
  have es : ∀ k, cI c2 k s = cI c0 k s := fun k => by rw [(h2.1 s (by omega)).1, (h1.1 s (by omega)).1]
  have hKo := ko.2.1
  refine OK_bind (P := fun c3 => (∀ a, ¬ (s + 27 ≤ a ∧ a < s + 67) → Eq1 c2 c3 a) ∧ ∀ k j, k < Ko → j < 3 → cA c3 (s + 27 + ρ k) j = cA c2 (o + 27 + σ k) j) ?_ (fun c3 h3 => ?_)
  · refine itr_for (fun k p => ∃ c', p = (nI k, c') ∧ (∀ a, ¬ (s + 27 ≤ a ∧ a < s + 67) → Eq1 c2 c' a) ∧ ∀ i j, i < k → j < 3 → cA c' (s + 27 + ρ i) j = cA c2 (o + 27 + σ i) j) _ 0 Ko ?_ ?_ (by omega) (by omega) ⟨c2, rfl, fun a _ => Eq1.refl c2 a, fun i j hi => absurd hi (Nat.not_lt_zero i)⟩
    · rintro k p - hk ⟨c', rfl, he, hv⟩
      show OK (Bc_X5_copy_142 g s o (nI k) c') _
      unfold Bc_X5_copy_142
      have h602 : cI c' 602 s = nI Ko := by rw [(he s (by omega)).1, es, i2]
      have h9 : ¬ nI Ko ≤ nI k := by rw [nI_leI (by omega) (by omega)]; omega
      obtain ⟨r1, r2⟩ := ks.2.2.1 k (by omega)
      obtain ⟨t1, t2⟩ := ko.2.2.1 k (by omega)
      simp only [hs.1, h602, h9, nl_1, nI_add, reduceIte]
      refine OK_bind (C_copy152 (c := c') (k := k) (ρ := ρ k) (σ := σ k) hs ho hd (by omega) r2 t2 (by rw [(he (s + 26) (by omega)).2.2.2.2.2, (e12 (s + 26) (by omega)).2.2.2.2.2]; exact r1) (by rw [(he (o + 26) (by omega)).2.2.2.2.2, (e12 (o + 26) (by omega)).2.2.2.2.2]; exact t1)) (fun c4 h4 => ⟨_, rfl, Or.inl ⟨_, rfl, c4, rfl, fun a ha => (he a ha).trans (h4.1 a (by omega)), fun i j hi hj => ?_⟩⟩)
      by_cases e : i = k
      · subst e
        rw [h4.2 j hj, (he (o + 27 + σ i) (by omega)).2.2.2.1]
      · have hne : ρ i ≠ ρ k := fun q => e (ks.2.2.2 i k (by omega) (by omega) q)
        rw [(h4.1 (s + 27 + ρ i) (by omega)).2.2.2.1]
        exact hv i j (by omega) hj
    · rintro p ⟨c', rfl, he, hv⟩
      show OK (Bc_X5_copy_142 g s o (nI Ko) c') _
      unfold Bc_X5_copy_142
      have h602 : cI c' 602 s = nI Ko := by rw [(he s (by omega)).1, es, i2]
      have h9 : nI Ko ≤ nI Ko := by rw [nI_leI (by omega) (by omega)]; omega
      simp only [hs.1, h602, h9, reduceIte]
      exact ⟨_, rfl, _, rfl, he, hv⟩
  · refine ⟨_, rfl, rfl, fun nl w hnl hof hR => ?_, fun k hk => ?_, ⟨?_, ko.2.1, fun i hi => ⟨?_, (ks.2.2.1 i hi).2⟩, ks.2.2.2⟩, fun w hw => ⟨hw.1, fun k j hk hj => ?_⟩, fun a ha => (e12 a (Or.inl ha)).trans (h3.1 a (by omega))⟩
    · obtain ⟨w1, w2, w3, w4, w5, w6⟩ := hR
      refine ⟨?_, ?_, fun i hi => ?_, fun i r hi hr => ?_, fun i r hi hr => ?_, fun k hk => ⟨?_, ?_⟩⟩
      · rw [(h3.1 s (by omega)).1, es, i0]; exact w1
      · rw [(h3.1 s (by omega)).1, es, i1]; exact w2
      · rw [(h3.1 (s + 1) (by omega)).2.2.2.1, (h2.1 (s + 1) (by omega)).2.2.2.1, h1.2.1 i hi, (q0 (o + 1) (by omega)).2.2.2.1]; exact w3 i hi
      · rw [(h3.1 (s + 5 + i) (by omega)).2.2.2.1, (h2.1 (s + 5 + i) (by omega)).2.2.2.1, (h1.2.2 i r hi hr).1, (q0 (o + 5 + i) (by omega)).2.2.2.1]; exact w4 i r hi hr
      · rw [(h3.1 (s + 16 + i) (by omega)).2.2.2.1, (h2.1 (s + 16 + i) (by omega)).2.2.2.1, (h1.2.2 i r hi hr).2, (q0 (o + 16 + i) (by omega)).2.2.2.1]; exact w5 i r hi hr
      · rw [(h3.1 (s + 3) (by omega)).2.2.2.1, (h2.2 k (by omega)).2.1, (h1.1 (o + 3) (by omega)).2.2.2.1, (q0 (o + 3) (by omega)).2.2.2.1, (w6 k hk).1]
        rcases hof k hk with q | q <;> rw [q] <;> decide
      · rw [(h3.1 (s + 2) (by omega)).2.2.2.1, (h2.2 k (by omega)).1, (h1.1 (o + 2) (by omega)).2.2.2.1, (q0 (o + 2) (by omega)).2.2.2.1]; exact (w6 k hk).2
    · rw [(h3.1 (s + 67) (by omega)).2.2.2.1]; exact (h2.2 k hk).2.2
    · rw [(h3.1 s (by omega)).1, es]; exact i2
    · rw [(h3.1 (s + 26) (by omega)).2.2.2.2.2, (e12 (s + 26) (by omega)).2.2.2.2.2]; exact (ks.2.2.1 i hi).1
    · rw [h3.2 k j hk hj, (e12 (o + 27 + σ k) (by have := (ko.2.2.1 k (by omega)).2; omega)).2.2.2.1]
      exact hw.2 k j hk hj
end CC2
