/-! PLAIN LAW: what is kept of seasons -/
set_option maxRecDepth 100000
def RKp (c : CC) (s K : Nat) (π : Nat → Nat) : Prop := cI c 602 s = nI K ∧ K ≤ 40 ∧ (∀ i, i < 40 → cP c (s + 26) i = some (s + 27 + π i) ∧ π i < 40) ∧ ∀ i j, i < 40 → j < 40 → π i = π j → i = j
def RKw (c : CC) (s K : Nat) (π : Nat → Nat) (w : Nat → Int32) : Prop := w 182 = nI K ∧ ∀ k j, k < K → j < 3 → cA c (s + 27 + π k) j = w (183 + 3 * k + j)
section CE2
variable {g : CG} {c : CC} {X s : Nat}
theorem C_tell66 {K : Nat} {π : Nat → Nat} {b p : Int32} (hs : StG g s X) (h602 : cI c 602 s = nI K) (hK : K < 40) (hP : ∀ i, i < 40 → cP c (s + 26) i = some (s + 27 + π i) ∧ π i < 40) (hi : ∀ i j, i < 40 → j < 40 → π i = π j → i = j) :
    ∃ c', Jc_X5_tells_66 g s b p c = some c' ∧ CF X s c c' ∧ (∀ k, k ≠ 602 → cI c' k s = cI c k s) ∧ (∀ a, s < a → a < s + 26 → Eq1 c c' a) ∧ Eq1 c c' (s + 67) ∧ cI c' 602 s = nI (K + 1) ∧ (∀ i, cP c' (s + 26) i = cP c (s + 26) i) ∧ ∀ k j, k < 40 → j < 3 → cA c' (s + 27 + π k) j = if k = K then (if j = 0 then cI c 600 s else if j = 1 then b else p) else cA c (s + 27 + π k) j := by
  obtain ⟨r1, r2, r3, r4⟩ := hs.2.2.2.2.2.2.2.1
  obtain ⟨p1, p2⟩ := hP K hK
  obtain ⟨q1, q2⟩ := r4 (π K) p2
  unfold Jc_X5_tells_66
  simp only [hs.1, r1, r2, r3, cI_uA, cP_uA, h602, xin_nI (show K < 40 from hK) (show 40 < 2147483648 by omega), nI_clamp (show K < 2 ^ 31 by omega), p1, q1, q2, nl_0, nl_1, nl_2, xin_nI (show 0 < 3 by omega) (show 3 < 2147483648 by omega), xin_nI (show 1 < 3 by omega) (show 3 < 2147483648 by omega), xin_nI (show 2 < 3 by omega) (show 3 < 2147483648 by omega), nI_clamp (show 0 < 2 ^ 31 by omega), nI_clamp (show 1 < 2 ^ 31 by omega), nI_clamp (show 2 < 2 ^ 31 by omega), nI_add, reduceIte, Option.bind_some]
  refine ⟨_, rfl, ((((CF.refl X s c).uA (by omega)).uA (by omega)).uA (by omega)).uI (by omega), fun k hk => ?_, fun a h1 h2 => ?_, ?_, ?_, fun i => ?_, fun k j hk hj => ?_⟩
  · rw [cI_uI, if_neg (fun e => hk e.1)]; rfl
  · exact ((((Eq1.refl c a).uA (by omega)).uA (by omega)).uA (by omega)).uI (by omega)
  · exact ((((Eq1.refl c _).uA (by omega)).uA (by omega)).uA (by omega)).uI (by omega)
  · rw [cI_uI, if_pos ⟨rfl, rfl⟩]
  · rfl
  · rw [cA_uI, cA_uA, cA_uA, cA_uA]
    by_cases e : k = K
    · subst e
      simp only [true_and, reduceIte]
      rcases (by omega : j = 0 ∨ j = 1 ∨ j = 2) with h | h | h <;> subst h <;> simp
    · have h1 : ¬ (s + 27 + π k = s + 27 + π K) := fun q => e (hi k K hk hK (by omega))
      simp only [h1, false_and, reduceIte, e]
theorem C_tells {K : Nat} {π : Nat → Nat} {b p : Int32} (hs : StG g s X) (h : RKp c s K π) : OK (f_c_X5_tells g s b p c) (fun c' => CF X s c c' ∧ (∀ k, k ≠ 602 → cI c' k s = cI c k s) ∧ (∀ a, s < a → a < s + 26 → Eq1 c c' a) ∧ Eq1 c c' (s + 67) ∧ ∃ K' π', RKp c' s K' π' ∧ ∀ w, RKw c s K π w → w 0 = cI c 600 s → RKw c' s K' π' (keptS w b p)) := by
  obtain ⟨h602, hK, hP, hi⟩ := h
  obtain ⟨r1, r2, r3, r4⟩ := hs.2.2.2.2.2.2.2.1
  unfold f_c_X5_tells
  rw [if_pos hs.1, h602, nl_40]
  by_cases h40 : K = 40
  · subst h40
    rw [if_pos rfl, r1, Option.bind_some, if_pos r2, r3, nl_0, xin_nI (show 0 < 40 by omega) (show 40 < 2147483648 by omega), if_pos rfl, nI_clamp (show 0 < 2 ^ 31 by omega), (hP 0 (by omega)).1, Option.bind_some]
    refine OK_bind (P := fun c1 => CF X s c c1 ∧ (∀ a, a ≠ s + 26 → Eq1 c c1 a) ∧ ∀ i, i < 40 → cP c1 (s + 26) i = some (s + 27 + π (if i < 39 then i + 1 else i))) ?_ (fun c1 h1 => ?_)
    · refine itr_for (fun k q => ∃ c', q = (nI k, c') ∧ CF X s c c' ∧ (∀ a, a ≠ s + 26 → Eq1 c c' a) ∧ ∀ i, i < 40 → cP c' (s + 26) i = some (s + 27 + π (if i + 1 < k then i + 1 else i))) _ 1 40 ?_ ?_ (by omega) (by omega) ⟨c, rfl, CF.refl X s c, fun a _ => Eq1.refl c a, fun i hi9 => by rw [if_neg (by omega)]; exact (hP i hi9).1⟩
      · rintro k q hk1 hk2 ⟨c', rfl, hf, he, hc⟩
        show OK (Bc_X5_tells_19 g s b p (s + 27 + π 0) (nI k) c') _
        unfold Bc_X5_tells_19
        have h2 : ¬ nI 40 ≤ nI k := by rw [nI_leI (by omega) (by omega)]; omega
        have e1 := hc k (by omega)
        rw [if_neg (by omega)] at e1
        have e2 := (r4 (π k) (hP k (by omega)).2).1
        simp only [nl_40, nl_1, h2, hs.1, r1, r2, r3, xin_nI (show k < 40 from hk2) (show 40 < 2147483648 by omega), nI_clamp (show k < 2 ^ 31 by omega), e1, e2, nI_m1 hk1, xin_nI (show k - 1 < 40 by omega) (show 40 < 2147483648 by omega), nI_clamp (show k - 1 < 2 ^ 31 by omega), nI_add, reduceIte, Option.bind_some]
        refine ⟨_, rfl, Or.inl ⟨_, rfl, _, rfl, hf.uP (by omega), fun a ha => (he a ha).uP ha, fun i hi9 => ?_⟩⟩
        rw [cP_uP]
        by_cases e : i = k - 1
        · subst e
          rw [if_pos ⟨rfl, rfl⟩, if_pos (by omega), show k - 1 + 1 = k by omega]
        · rw [if_neg (by omega), hc i hi9]
          by_cases h9 : i + 1 < k
          · rw [if_pos h9, if_pos (by omega)]
          · rw [if_neg h9, if_neg (by omega)]
      · rintro q ⟨c', rfl, hf, he, hc⟩
        show OK (Bc_X5_tells_19 g s b p (s + 27 + π 0) (nI 40) c') _
        unfold Bc_X5_tells_19
        have h2 : nI 40 ≤ nI 40 := by decide
        simp only [nl_40, h2, reduceIte]
        refine ⟨_, rfl, _, rfl, hf, he, fun i hi9 => ?_⟩
        rw [hc i hi9]
        by_cases h9 : i < 39
        · rw [if_pos h9, if_pos (by omega)]
        · rw [if_neg h9, if_neg (by omega)]
    · obtain ⟨hf, he, hc⟩ := h1
      have e0 := (r4 (π 0) (hP 0 (by omega)).2).1
      rw [if_pos e0, show (39 : Int32) = nI 39 from rfl, xin_nI (show 39 < 40 by omega) (show 40 < 2147483648 by omega), if_pos rfl, nI_clamp (show 39 < 2 ^ 31 by omega), nl_1]
      have hk9 : cI (uP c1 (s + 26) 39 (some (s + 27 + π 0))) 602 s = nI 40 := by rw [cI_uP, (he s (by omega)).1]; exact h602
      rw [hk9, show nI 40 - nI 1 = nI 39 from nI_m1 (by omega)]
      have hrot : ∀ i, i < 40 → cP (uI (uP c1 (s + 26) 39 (some (s + 27 + π 0))) 602 s (nI 39)) (s + 26) i = some (s + 27 + π (if i < 39 then i + 1 else 0)) ∧ π (if i < 39 then i + 1 else 0) < 40 := by
        intro i hi9
        refine ⟨?_, (hP _ (by split <;> omega)).2⟩
        rw [cP_uI, cP_uP]
        by_cases e : i = 39
        · subst e; rw [if_pos ⟨rfl, rfl⟩]; rfl
        · rw [if_neg (by omega), hc i hi9, if_pos (by omega), if_pos (by omega)]
      obtain ⟨c', e1, f1, f2, f3, f4, f5, f6, f7⟩ := C_tell66 (b := b) (p := p) (K := 39) (π := fun i => π (if i < 39 then i + 1 else 0)) hs (c := uI (uP c1 (s + 26) 39 (some (s + 27 + π 0))) 602 s (nI 39)) (by rw [cI_uI, if_pos ⟨rfl, rfl⟩]) (by omega) hrot (fun i j h1 h2 h3 => by
        have := hi _ _ (by split <;> omega) (by split <;> omega) h3
        split at this <;> split at this <;> omega)
      have hfu : CF X s c (uI (uP c1 (s + 26) 39 (some (s + 27 + π 0))) 602 s (nI 39)) := (hf.uP (by omega)).uI (by omega)
      have heu : ∀ a, a ≠ s + 26 → a ≠ s → Eq1 c (uI (uP c1 (s + 26) 39 (some (s + 27 + π 0))) 602 s (nI 39)) a := fun a h1 h2 => ((he a h1).uP h1).uI h2
      have hIu : ∀ k, k ≠ 602 → cI (uI (uP c1 (s + 26) 39 (some (s + 27 + π 0))) 602 s (nI 39)) k s = cI c k s := fun k hk => by rw [cI_uI, if_neg (fun e => hk e.1), cI_uP]; exact (he s (by omega)).1 k
      refine ⟨c', e1, hfu.trans f1, fun k hk => (f2 k hk).trans (hIu k hk), fun a h1 h2 => (heu a (by omega) (by omega)).trans (f3 a h1 h2), (heu _ (by omega) (by omega)).trans f4, 40, fun i => π (if i < 39 then i + 1 else 0), ⟨f5, by omega, fun i hi9 => ⟨by rw [f6]; exact (hrot i hi9).1, (hrot i hi9).2⟩, fun i j h1 h2 h3 => by
        have := hi _ _ (by split <;> omega) (by split <;> omega) h3
        split at this <;> split at this <;> omega⟩, fun w hw w0 => ⟨?_, fun k j hk hj => ?_⟩⟩
      · unfold keptS
        have e2 : keptW w 182 = nI 40 := by
          unfold keptW
          rw [if_pos hw.1]
          unfold shiftK
          rw [if_neg (by omega)]
          exact hw.1
        rw [e2, nI_clamp (by omega), pk_un (by omega), pk_un (by omega), pk_un (by omega)]
        exact e2
      · rw [f7 k j hk hj]
        have e2 : keptW w = shiftK w 300 := by unfold keptW; rw [if_pos hw.1]
        have e3 : shiftK w 300 182 = nI 40 := by unfold shiftK; rw [if_neg (by omega)]; exact hw.1
        have e4 : shiftK w 300 0 = cI c 600 s := by unfold shiftK; rw [if_neg (by omega)]; exact w0
        unfold keptS
        rw [e2, e3, e4, nI_clamp (show 40 < 2 ^ 31 by omega)]
        by_cases ek : k = 39
        · subst ek
          rw [if_pos rfl]
          rcases (by omega : j = 0 ∨ j = 1 ∨ j = 2) with h | h | h <;> subst h
          · rw [if_pos rfl, pk_un (by omega), pk_un (by omega), pk_us]
            exact hIu 600 (by omega)
          · rw [if_neg (by omega), if_pos rfl, pk_un (by omega), pk_us]
          · rw [if_neg (by omega), if_neg (by omega), pk_us]
        · rw [if_neg ek, pk_un (by omega), pk_un (by omega), pk_un (by omega)]
          have e5 := hw.2 (k + 1) j (by omega) hj
          have hpk : π (if k < 39 then k + 1 else 0) = π (k + 1) := by rw [if_pos (by omega)]
          have hlt := (hP (k + 1) (by omega)).2
          show cA (uI (uP c1 (s + 26) 39 (some (s + 27 + π 0))) 602 s (nI 39)) (s + 27 + π (if k < 39 then k + 1 else 0)) j = _
          rw [hpk, (heu (s + 27 + π (k + 1)) (by omega) (by omega)).2.2.2.1, e5]
          unfold shiftK
          rw [if_pos (by omega)]
          congr 1
          omega
  · rw [if_neg (by rw [nI_eq (by omega) (by omega)]; exact h40)]
    obtain ⟨c', e1, f1, f2, f3, f4, f5, f6, f7⟩ := C_tell66 (b := b) (p := p) hs h602 (by omega) hP hi
    refine ⟨c', e1, f1, f2, f3, f4, K + 1, π, ⟨f5, by omega, fun i hi9 => by rw [f6]; exact hP i hi9, hi⟩, fun w hw w0 => ⟨?_, fun k j hk hj => ?_⟩⟩
    · have hne : ¬ w 182 = nI 40 := by rw [hw.1, nI_eq (by omega) (by omega)]; exact h40
      have e2 : keptW w 182 = nI (K + 1) := by
        unfold keptW
        rw [if_neg hne, pk_us, hw.1, nI_add]
      unfold keptS
      rw [e2, nI_clamp (by omega), pk_un (by omega), pk_un (by omega), pk_un (by omega)]
      exact e2
    · rw [f7 k j (by omega) hj]
      have hne : ¬ w 182 = nI 40 := by rw [hw.1, nI_eq (by omega) (by omega)]; exact h40
      have e2 : keptW w = upd w 182 (nI (K + 1)) := by unfold keptW; rw [if_neg hne, hw.1, nI_add]
      unfold keptS
      rw [e2, pk_us, nI_clamp (show K + 1 < 2 ^ 31 by omega), pk_un (show (0 : Nat) ≠ 182 by omega), w0]
      by_cases ek : k = K
      · subst ek
        rw [if_pos rfl]
        rcases (by omega : j = 0 ∨ j = 1 ∨ j = 2) with h | h | h <;> subst h
        · rw [if_pos rfl, pk_un (by omega), pk_un (by omega), show 183 + 3 * k + 0 = 180 + 3 * (k + 1) by omega, pk_us]
        · rw [if_neg (by omega), if_pos rfl, pk_un (by omega), show 183 + 3 * k + 1 = 181 + 3 * (k + 1) by omega, pk_us]
        · rw [if_neg (by omega), if_neg (by omega), show 183 + 3 * k + 2 = 182 + 3 * (k + 1) by omega, pk_us]
      · rw [if_neg ek, pk_un (by omega), pk_un (by omega), pk_un (by omega), pk_un (by omega)]
        exact hw.2 k j (by omega) hj
end CE2
