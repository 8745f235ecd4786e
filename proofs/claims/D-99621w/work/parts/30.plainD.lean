/-! PLAIN LAW: the component's season: how often it ran, payments -/
set_option maxRecDepth 100000
/-- what is kept in a state stays as it is -/
def KS (s : Nat) (c c' : CC) : Prop := cI c' 602 s = cI c 602 s ∧ ∀ a, s + 26 ≤ a → a < s + 67 → Eq1 c c' a
theorem KS.refl (s : Nat) (c : CC) : KS s c c := ⟨rfl, fun a _ _ => Eq1.refl c a⟩
theorem KS.trans {s : Nat} {c c' c'' : CC} (h : KS s c c') (h' : KS s c' c'') : KS s c c'' := ⟨h'.1.trans h.1, fun a h1 h2 => (h.2 a h1 h2).trans (h'.2 a h1 h2)⟩
theorem CN.ks {X s : Nat} {c c' : CC} (h : CN X c c') (hs : X + 35 ≤ s) : KS s c c' := ⟨(h s (by omega)).1 602, fun a h1 _ => h a (by omega)⟩
theorem KS.uA {s b i : Nat} {c c' : CC} {x : Int32} (h : KS s c c') (hb : ¬ (s + 26 ≤ b ∧ b < s + 67)) : KS s c (uA c' b i x) := ⟨by rw [cI_uA]; exact h.1, fun a h1 h2 => (h.2 a h1 h2).uA (by intro e; subst e; exact hb ⟨h1, h2⟩)⟩
/-- what lords have of it -/
def RH (c : CC) (s nl : Nat) (G : Nat → Int32) : Prop := ∀ k, k < nl → cA c (s + 67) k = G k
section CD
variable {g : CG} {c : CC} {X V s lo hi : Nat} {v : VD} {w : Nat → Int32}
theorem RS_ever {c' : CC} {nl k r : Nat} {x : Int32} (h : RS c' s nl w) (hk : k < 10) (hr : r < 8) : RS (uA c' (s + 16 + k) r x) s nl (upd w (92 + 8 * k + r) x) := by
  obtain ⟨h1, h2, h3, h4, h5, h6⟩ := h
  by_cases hnl : True
  · refine ⟨by rw [cI_uA, pk_un (by omega)]; exact h1, by rw [cI_uA, pk_un (by omega)]; exact h2, fun i hi => ?_, fun i q hi hq => ?_, fun i q hi hq => ?_, fun j hj => ⟨?_, ?_⟩⟩
    · rw [cA_uA, if_neg (by omega), pk_un (by omega)]; exact h3 i hi
    · rw [cA_uA, if_neg (by omega), pk_un (by omega)]; exact h4 i q hi hq
    · rw [cA_uA]
      by_cases e : i = k ∧ q = r
      · obtain ⟨e1, e2⟩ := e
        subst e1; subst e2
        rw [if_pos ⟨rfl, rfl⟩, show 92 + (8 * i + q) = 92 + 8 * i + q by omega, pk_us]
      · rw [if_neg (by omega), pk_un (by omega)]; exact h5 i q hi hq
    · rw [cA_uA, if_neg (by omega), pk_un (by omega)]; exact (h6 j hj).1
    · rw [cA_uA, if_neg (by omega), pk_un (by omega)]; exact (h6 j hj).2
  · exact absurd trivial hnl
theorem C_ever {k : Nat} (hx : CX g c X V v lo hi) (ht : CT g c X s v w) (hk : k < vC v) : ∃ c', Bc_X5_passes_26 g s (nI k) c = some (.inl (nI (k + 1), c')) ∧ CT g c' X s v (everS w k) ∧ CF X s c c' ∧ KS s c c' ∧ ∀ j, cA c' (s + 67) j = cA c (s + 67) j := by
  obtain ⟨hX, hV, hv, hap, hmm, hb, hsb⟩ := id hx
  obtain ⟨hs, hRS, hW, hsX⟩ := id ht
  have hc := hb.1
  have hw := hb.2.1
  obtain ⟨r, hr, er⟩ := hW.1 k hk
  obtain ⟨b1, b2, b3, b4⟩ := hs.2.2.2.2.2.2.1
  obtain ⟨n, hn, en⟩ := hW.2.2.2.1 (8 * k + r) (by omega)
  have h2 : ¬ nI (vC v) ≤ nI k := by rw [nI_leI (by omega) (by omega)]; omega
  have en' : w (92 + 8 * k + r) = nI n := by rw [show 92 + 8 * k + r = 92 + (8 * k + r) by omega]; exact en
  have e9 : (w (2 + k)).toNatClampNeg = r := by rw [er]; exact nI_clamp (by omega)
  unfold Bc_X5_passes_26
  simp only [hs.1, hs.2.1, hX, C_columns hX hV hv.b, h2, b1, b2, b3, (b4 k (by omega)).1, (b4 k (by omega)).2.1, (b4 k (by omega)).2.2, hs.2.2.1.1, hs.2.2.1.2.1, hs.2.2.1.2.2, hRS.2.2.1 k (by omega), er, hRS.2.2.2.2.1 k r (by omega) (by omega), en, xin_nI (show k < 10 by omega) (show 10 < 2147483648 by omega), nI_clamp (show k < 2 ^ 31 by omega), xin_nI (show r < 8 by omega) (show 8 < 2147483648 by omega), nI_clamp (show r < 2 ^ 31 by omega), C_min, nl_1, nl_99, nI_add, reduceIte, Option.bind_some, xbd_some, nI_ltI (show n + 1 < 2 ^ 31 by omega) (show 99 < 2 ^ 31 by omega)]
  have hval : (if n + 1 < 99 then nI (n + 1) else nI 99) = nI (if 99 ≤ n then n else n + 1) := by
    by_cases h9 : n + 1 < 99
    · rw [if_pos h9, if_neg (by omega)]
    · rw [if_neg h9]; congr 1; split <;> omega
  rw [hval]
  have hw2 : everS w k = upd w (92 + 8 * k + r) (nI (if 99 ≤ n then n else n + 1)) := by
    unfold everS
    rw [e9, en']
    by_cases h9 : 99 ≤ n
    · rw [if_pos (nI_le h9 (by omega)), if_pos h9]
      funext j
      unfold upd
      by_cases hj : j = 92 + 8 * k + r
      · rw [if_pos hj, hj, en']
      · rw [if_neg hj]
    · rw [if_neg (by rw [nI_leI (by omega) (by omega)]; exact h9), if_neg h9, nI_add]
  refine ⟨_, rfl, ⟨hs, by rw [hw2]; exact RS_ever hRS (by omega) (by omega), ?_, hsX⟩, (CF.refl X s c).uA (by omega), (KS.refl s c).uA (by omega), fun j => ?_⟩
  · rw [hw2]
    refine ⟨fun i hi => ?_, ?_, fun j hj => ?_, fun j hj => ?_, fun j hj => ?_⟩
    · rw [pk_un (by omega)]; exact hW.1 i hi
    · rw [pk_un (by omega)]; exact hW.2.1
    · rw [pk_un (by omega)]; exact hW.2.2.1 j hj
    · by_cases e : j = 8 * k + r
      · subst e
        refine ⟨if 99 ≤ n then n else n + 1, by split <;> omega, ?_⟩
        rw [show 92 + (8 * k + r) = 92 + 8 * k + r by omega, pk_us]
      · rw [pk_un (by omega)]; exact hW.2.2.2.1 j hj
    · have := hb.2.2.2.1
      rw [pk_un (by omega), pk_un (by omega)]; exact hW.2.2.2.2 j hj
  · rw [cA_uA, if_neg (by omega)]
theorem RS_purse {c' : CC} {nl k : Nat} {x : Int32} (h : RS c' s nl w) (hnl : nl ≤ 5) (hk : k < 5) : RS (uA c' (s + 2) k x) s nl (upd w (172 + 2 * k + 1) x) := by
  obtain ⟨h1, h2, h3, h4, h5, h6⟩ := h
  refine ⟨by rw [cI_uA, pk_un (by omega)]; exact h1, by rw [cI_uA, pk_un (by omega)]; exact h2, fun i hi => ?_, fun i q hi hq => ?_, fun i q hi hq => ?_, fun j hj => ⟨?_, ?_⟩⟩
  · rw [cA_uA, if_neg (by omega), pk_un (by omega)]; exact h3 i hi
  · rw [cA_uA, if_neg (by omega), pk_un (by omega)]; exact h4 i q hi hq
  · rw [cA_uA, if_neg (by omega), pk_un (by omega)]; exact h5 i q hi hq
  · rw [cA_uA, if_neg (by omega), pk_un (by omega)]; exact (h6 j hj).1
  · rw [cA_uA]
    by_cases e : j = k
    · subst e; rw [if_pos ⟨rfl, rfl⟩, pk_us]
    · rw [if_neg (by omega), pk_un (by omega)]; exact (h6 j hj).2
theorem RS_other {c' : CC} {nl b k : Nat} {x : Int32} (h : RS c' s nl w) (hb : b < s ∨ s + 26 ≤ b) : RS (uA c' b k x) s nl w := by
  obtain ⟨h1, h2, h3, h4, h5, h6⟩ := h
  refine ⟨h1, h2, fun i hi => ?_, fun i q hi hq => ?_, fun i q hi hq => ?_, fun j hj => ⟨?_, ?_⟩⟩
  · rw [cA_uA, if_neg (by omega)]; exact h3 i hi
  · rw [cA_uA, if_neg (by omega)]; exact h4 i q hi hq
  · rw [cA_uA, if_neg (by omega)]; exact h5 i q hi hq
  · rw [cA_uA, if_neg (by omega)]; exact (h6 j hj).1
  · rw [cA_uA, if_neg (by omega)]; exact (h6 j hj).2
theorem payL_WB {c0 : Int32} {k : Nat} {S : (Nat → Int32) × (Nat → Int32) × Int32} (hb : VB v) (hk : k < vN v) (h : WB v S.1) : WB v (payL v c0 k S).1 := by
  unfold payL
  split
  · have hn := hb.2.2.2.1
    obtain ⟨h1, h2, h3, h4, h5⟩ := h
    have hcc := hb.1
    refine ⟨fun i hi => ?_, ?_, fun j hj => ?_, fun j hj => ?_, fun j hj => ⟨?_, ?_⟩⟩
    · show ∃ r, r < vW v ∧ upd S.1 (172 + 2 * k + 1) _ (2 + i) = nI r
      rw [pk_un (by omega)]; exact h1 i hi
    · dsimp only
      rw [pk_un (by omega)]; exact h2
    · show ∃ n, n ≤ 100 ∧ upd S.1 (172 + 2 * k + 1) _ (12 + j) = nI n
      rw [pk_un (by omega)]; exact h3 j hj
    · show ∃ n, n ≤ 99 ∧ upd S.1 (172 + 2 * k + 1) _ (92 + j) = nI n
      rw [pk_un (by omega)]; exact h4 j hj
    · show upd S.1 (172 + 2 * k + 1) _ (172 + 2 * j) = nI 0 ∨ upd S.1 (172 + 2 * k + 1) _ (172 + 2 * j) = nI 1
      rw [pk_un (by omega)]; exact (h5 j hj).1
    · show ∃ n, n ≤ 999 ∧ upd S.1 (172 + 2 * k + 1) _ (172 + 2 * j + 1) = nI n
      by_cases e : j = k
      · subst e
        rw [pk_us]
        obtain ⟨z, hz, ez⟩ := (h5 j hj).2
        obtain ⟨a, b, p, y, q, -, -, -, -, e5, e6, -⟩ := hb.2.2.2.2.2.2 j hj
        unfold offS
        by_cases h9 : S.1 (172 + 2 * j) = nI 1 ∧ vL v (5 * j + 2) ≤ S.1 (172 + 2 * j + 1)
        · rw [if_pos h9]
          have h8 := h9.2
          rw [ez, e5, nI_leI (by omega) (by omega)] at h8
          exact ⟨z - p, by omega, by rw [ez, e5, pk_sub h8]⟩
        · rw [if_neg h9, ez, pk_sub (by omega)]
          exact ⟨z - 0, by omega, rfl⟩
      · rw [pk_un (by omega)]; exact (h5 j hj).2
  · exact h
theorem C_pays {k : Nat} {G : Nat → Int32} (hx : CX g c X V v lo hi) (ht : CT g c X s v w) (hG : RH c s (vN v) G) (hk : k < vC v) : OK (f_c_X5_pays g s (nI k) c) (fun o => o.1 = (payLN v (nI k) (w, G, nI 0) (vN v)).2.2 ∧ CT g o.2 X s v (payLN v (nI k) (w, G, nI 0) (vN v)).1 ∧ RH o.2 s (vN v) (payLN v (nI k) (w, G, nI 0) (vN v)).2.1 ∧ CF X s c o.2 ∧ KS s c o.2) := by
  obtain ⟨hX, hV, hv, hap, hmm, hb, hsb⟩ := id hx
  have hn := hb.2.2.2.1
  have hsX := ht.2.2.2
  unfold f_c_X5_pays
  refine OK_bind (P := fun o => o.1 = (payLN v (nI k) (w, G, nI 0) (vN v)).2.2 ∧ CT g o.2 X s v (payLN v (nI k) (w, G, nI 0) (vN v)).1 ∧ RH o.2 s (vN v) (payLN v (nI k) (w, G, nI 0) (vN v)).2.1 ∧ CF X s c o.2 ∧ KS s c o.2) ?_ (fun o ho => ⟨_, rfl, ho⟩)
  refine itr_for (fun j p => ∃ c', p = ((payLN v (nI k) (w, G, nI 0) j).2.2, nI j, c') ∧ CT g c' X s v (payLN v (nI k) (w, G, nI 0) j).1 ∧ RH c' s (vN v) (payLN v (nI k) (w, G, nI 0) j).2.1 ∧ CF X s c c' ∧ KS s c c') _ 0 (vN v) ?_ ?_ (by omega) (by omega) ⟨c, rfl, ht, hG, CF.refl X s c, KS.refl s c⟩
  · rintro j p - hj ⟨c', rfl, ht', hG', hf, hks⟩
    have hx' := hx.cf hsX hf
    obtain ⟨o, o1, o2, o3, o4, -⟩ := C_lordOf hX hx'.2.1 hx'.2.2.1.b hb hj
    have hN : payLN v (nI k) (w, G, nI 0) (j + 1) = payL v (nI k) j (payLN v (nI k) (w, G, nI 0) j) := rfl
    have hWB := payL_WB (c0 := nI k) (S := payLN v (nI k) (w, G, nI 0) j) hb hj ht'.2.2.1
    rw [← hN] at hWB
    generalize payLN v (nI k) (w, G, nI 0) (j + 1) = S' at *
    generalize payLN v (nI k) (w, G, nI 0) j = S at *
    obtain ⟨hs, hRS, hW, -⟩ := id ht'
    have hoff : ∀ k, k < vN v → S.1 (172 + 2 * k) = nI 0 ∨ S.1 (172 + 2 * k) = nI 1 := fun k hk => (hW.2.2.2.2 k hk).1
    show OK (Bc_X5_pays_4 g s (nI k) S.2.2 (nI j) c') _
    unfold Bc_X5_pays_4 Jc_X5_pays_79
    have h2 : ¬ nI (vN v) ≤ nI j := by rw [nI_leI (by omega) (by omega)]; omega
    simp only [hs.1, hs.2.1, hX, C_lords hX hx'.2.1 hx'.2.2.1.b, h2, o1, o2, C_isOf o2 o3 o4, nl_0, nl_1, b32_0, reduceIte, Option.bind_some, xbd_some]
    unfold payL at hN
    cases h9 : ofS v j (nI k) with
    | false =>
      rw [h9] at hN
      simp only [Bool.false_eq_true, reduceIte] at hN
      subst hN
      simp only [reduceIte, nI_add]
      exact ⟨_, rfl, Or.inl ⟨_, rfl, c', rfl, ht', hG', hf, hks⟩⟩
    | true =>
      rw [h9] at hN
      simp only [reduceIte] at hN
      have hfA : CF X s c (uA c' (s + 2) j (S.1 (172 + 2 * j + 1) - offS v S.1 j)) := hf.uA (by omega)
      have hxA := hx.cf hsX hfA
      obtain ⟨o', p1, p2, -, -, -, p6, -⟩ := C_lordOf hX hxA.2.1 hxA.2.2.1.b hb hj
      simp only [Bool.true_eq_false, C_offer hs hX hx'.2.1 hx'.2.2.1.b hb hRS hoff hj, hs.2.2.2.1.1, hs.2.2.2.1.2.1, hs.2.2.2.1.2.2, hs.2.2.2.2.2.2.2.2.1, hs.2.2.2.2.2.2.2.2.2.1, hs.2.2.2.2.2.2.2.2.2.2, xin_nI (show j < 5 by omega) (show 5 < 2147483648 by omega), nI_clamp (show j < 2 ^ 31 by omega), (hRS.2.2.2.2.2 j hj).2, p1, p2, p6, reduceIte, Option.bind_some, xbd_some, nI_add]
      have e67 : cA (uA c' (s + 2) j (S.1 (172 + 2 * j + 1) - offS v S.1 j)) (s + 67) j = S.2.1 j := by rw [cA_uA, if_neg (by omega)]; exact hG' j hj
      rw [e67]
      subst hN
      refine ⟨_, rfl, Or.inl ⟨_, rfl, _, rfl, ⟨hs, ?_, hWB, hsX⟩, fun i hi => ?_, (hf.uA (by omega)).uA (by omega), (hks.uA (by omega)).uA (by omega)⟩⟩
      · exact RS_other (RS_purse hRS hn (by omega)) (Or.inr (by omega))
      · dsimp only
        rw [cA_uA]
        by_cases e : i = j
        · subst e; rw [if_pos ⟨rfl, rfl⟩, pk_us]
        · rw [if_neg (by omega), cA_uA, if_neg (by omega), pk_un e]; exact hG' i hi
  · rintro p ⟨c', rfl, ht', hG', hf, hks⟩
    have hx' := hx.cf hsX hf
    show OK (Bc_X5_pays_4 g s (nI k) (payLN v (nI k) (w, G, nI 0) (vN v)).2.2 (nI (vN v)) c') _
    unfold Bc_X5_pays_4
    have h2 : nI (vN v) ≤ nI (vN v) := by rw [nI_leI (by omega) (by omega)]; omega
    simp only [ht.1.1, ht.1.2.1, hX, C_lords hX hx'.2.1 hx'.2.2.1.b, h2, reduceIte, Option.bind_some, xbd_some]
    exact ⟨_, rfl, _, rfl, rfl, ht', hG', hf, hks⟩
end CD
