/-! PLAIN LAW: the component's season, whole -/
set_option maxRecDepth 100000
theorem bendS_cong {v : VD} (hb : VB v) {w w' : Nat → Int32} (h0 : w' 0 = w 0) (h : ∀ i, 2 ≤ i → i < 12 → w' i = w i) {c : Nat} (hc : c < vC v) : bendS v w' c = bendS v w c := by
  have h1 := hb.1
  unfold bendS beforeS behindS
  rw [h0, h _ (by omega) (by omega), h _ (by omega) (by omega), h _ (by omega) (by split <;> omega)]
theorem bendsN_cong {v : VD} (hb : VB v) {w w' : Nat → Int32} (h0 : w' 0 = w 0) (h : ∀ i, 2 ≤ i → i < 12 → w' i = w i) : ∀ k, k ≤ vC v → bendsN v w' 0 k = bendsN v w 0 k
  | 0, _ => rfl
  | k + 1, hk => by rw [bendsN, bendsN, bendsN_cong hb h0 h k (by omega), bendS_cong hb h0 h (by omega)]
theorem bp_count {v : VD} (hb : VB v) {w G : Nat → Int32} : ∀ k, k ≤ vC v → (bpN v (w, G, nI 0, nI 0) k).2.2.1 = bendsN v w 0 k
  | 0, _ => rfl
  | k + 1, hk => by
    have e := bendS_cong (w := w) (w' := (bpN v (w, G, nI 0, nI 0) k).1) hb (bpN_out hb (by omega) k) (fun i h1 h2 => bpN_out hb (by omega) k) (show k < vC v by omega)
    show (bpS v k (bpN v (w, G, nI 0, nI 0) k)).2.2.1 = _
    unfold bpS
    rw [bendsN, Nat.zero_add, e, ← bp_count hb k (by omega)]
    cases bendS v w k <;> rfl
theorem CT.cong {g : CG} {c : CC} {X s : Nat} {v : VD} (hb : VB v) {w w' : Nat → Int32} (h : CT g c X s v w) (e : ∀ i, i < 182 → w' i = w i) : CT g c X s v w' := by
  obtain ⟨hs, ⟨h1, h2, h3, h4, h5, h6⟩, ⟨k1, k2, k3, k4, k5⟩, hX⟩ := h
  have hc := hb.1
  have hn := hb.2.2.2.1
  refine ⟨hs, ⟨by rw [e _ (by omega)]; exact h1, by rw [e _ (by omega)]; exact h2, fun i hi => by rw [e _ (by omega)]; exact h3 i hi, fun i r hi hr => by rw [e _ (by omega)]; exact h4 i r hi hr, fun i r hi hr => by rw [e _ (by omega)]; exact h5 i r hi hr, fun k hk => ⟨by rw [e _ (by omega)]; exact (h6 k hk).1, by rw [e _ (by omega)]; exact (h6 k hk).2⟩⟩,
    ⟨fun i hi => by rw [e _ (by omega)]; exact k1 i hi, by rw [e _ (by omega)]; exact k2, fun k hk => by rw [e _ (by omega)]; exact k3 k hk, fun k hk => by rw [e _ (by omega)]; exact k4 k hk, fun k hk => ⟨by rw [e _ (by omega)]; exact (k5 k hk).1, by rw [e _ (by omega)]; exact (k5 k hk).2⟩⟩, hX⟩
theorem RH.of {c c' : CC} {s nl : Nat} {G : Nat → Int32} (h : RH c s nl G) (e : ∀ j, cA c' (s + 67) j = cA c (s + 67) j) : RH c' s nl G := fun k hk => by rw [e]; exact h k hk
theorem RKp.of {c c' : CC} {s K : Nat} {π : Nat → Nat} (h : RKp c s K π) (e : KS s c c') : RKp c' s K π := ⟨by rw [e.1]; exact h.1, h.2.1, fun i hi => ⟨by rw [(e.2 (s + 26) (by omega) (by omega)).2.2.2.2.2]; exact (h.2.2.1 i hi).1, (h.2.2.1 i hi).2⟩, h.2.2.2⟩
theorem RKw.of {c c' : CC} {s K : Nat} {π : Nat → Nat} {w w' : Nat → Int32} (hp : RKp c s K π) (h : RKw c s K π w) (e : KS s c c') (ew : ∀ i, 182 ≤ i → w' i = w i) : RKw c' s K π w' := ⟨by rw [ew _ (by omega)]; exact h.1, fun k j hk hj => by
  have h9 := hp.2.1
  have h8 := (hp.2.2.1 k (by omega)).2
  rw [ew _ (by omega), (e.2 (s + 27 + π k) (by omega) (by omega)).2.2.2.1]
  exact h.2 k j hk hj⟩
section CP
variable {g : CG} {c : CC} {X V s lo hi : Nat} {v : VD} {w : Nat → Int32}
theorem C_moveN (hx : CX g c X V v lo hi) (ht : CT g c X s v w) : OK (itr (fun s_ : Int32 × CC => Bc_X5_passes_2 g s s_.1 s_.2) 4096 (0, c)) (fun c' => CT g c' X s v (moveN v w (vC v)) ∧ CF X s c c' ∧ KS s c c' ∧ ∀ j, cA c' (s + 67) j = cA c (s + 67) j) := by
  obtain ⟨hX, -, -, -, -, hb, -⟩ := id hx
  have hc := hb.1
  have hsX := ht.2.2.2
  refine itr_for (fun k p => ∃ c', p = (nI k, c') ∧ CT g c' X s v (moveN v w k) ∧ CF X s c c' ∧ KS s c c' ∧ ∀ j, cA c' (s + 67) j = cA c (s + 67) j) _ 0 (vC v) ?_ ?_ (by omega) (by omega) ⟨c, rfl, ht, CF.refl X s c, KS.refl s c, fun _ => rfl⟩
  · rintro k p - hk ⟨c', rfl, ht', hf, hks, hh⟩
    have hx' := hx.cf hsX hf
    show OK (Bc_X5_passes_2 g s (nI k) c') _
    unfold Bc_X5_passes_2
    have h2 : ¬ nI (vC v) ≤ nI k := by rw [nI_leI (by omega) (by omega)]; omega
    simp only [ht.1.1, ht.1.2.1, hX, C_columns hX hx'.2.1 hx'.2.2.1.b, h2, nl_1, nI_add, reduceIte, Option.bind_some, xbd_some]
    refine OK_bind (C_moves hx' ht' hk) (fun c2 h3 => ⟨_, rfl, Or.inl ⟨_, rfl, c2, rfl, h3.1, hf.trans h3.2.1, hks.trans ⟨h3.2.2.2.1, h3.2.2.2.2⟩, fun j => (h3.2.2.1 j).trans (hh j)⟩⟩)
  · rintro p ⟨c', rfl, ht', hf, hks, hh⟩
    have hx' := hx.cf hsX hf
    show OK (Bc_X5_passes_2 g s (nI (vC v)) c') _
    unfold Bc_X5_passes_2
    have h2 : nI (vC v) ≤ nI (vC v) := by rw [nI_leI (by omega) (by omega)]; omega
    simp only [ht.1.1, ht.1.2.1, hX, C_columns hX hx'.2.1 hx'.2.2.1.b, h2, reduceIte, Option.bind_some, xbd_some]
    exact ⟨_, rfl, _, rfl, ht', hf, hks, hh⟩
theorem C_everN (hx : CX g c X V v lo hi) (ht : CT g c X s v w) : OK (itr (fun s_ : Int32 × CC => Bc_X5_passes_26 g s s_.1 s_.2) 4096 (0, c)) (fun c' => CT g c' X s v (everN w (vC v)) ∧ CF X s c c' ∧ KS s c c' ∧ ∀ j, cA c' (s + 67) j = cA c (s + 67) j) := by
  obtain ⟨hX, -, -, -, -, hb, -⟩ := id hx
  have hc := hb.1
  have hsX := ht.2.2.2
  refine itr_for (fun k p => ∃ c', p = (nI k, c') ∧ CT g c' X s v (everN w k) ∧ CF X s c c' ∧ KS s c c' ∧ ∀ j, cA c' (s + 67) j = cA c (s + 67) j) _ 0 (vC v) ?_ ?_ (by omega) (by omega) ⟨c, rfl, ht, CF.refl X s c, KS.refl s c, fun _ => rfl⟩
  · rintro k p - hk ⟨c', rfl, ht', hf, hks, hh⟩
    have hx' := hx.cf hsX hf
    obtain ⟨c2, e, h1, h2, h3, h4⟩ := C_ever hx' ht' hk
    exact ⟨_, e, Or.inl ⟨_, rfl, c2, rfl, h1, hf.trans h2, hks.trans h3, fun j => (h4 j).trans (hh j)⟩⟩
  · rintro p ⟨c', rfl, ht', hf, hks, hh⟩
    have hx' := hx.cf hsX hf
    show OK (Bc_X5_passes_26 g s (nI (vC v)) c') _
    unfold Bc_X5_passes_26
    have h2 : nI (vC v) ≤ nI (vC v) := by rw [nI_leI (by omega) (by omega)]; omega
    simp only [ht.1.1, ht.1.2.1, hX, C_columns hX hx'.2.1 hx'.2.2.1.b, h2, reduceIte, Option.bind_some, xbd_some]
    exact ⟨_, rfl, _, rfl, ht', hf, hks, hh⟩
theorem C_bpN {G : Nat → Int32} (hx : CX g c X V v lo hi) (ht : CT g c X s v w) (hG : RH c s (vN v) G) : OK (itr (fun s_ : Int32 × Int32 × CC => Bc_X5_passes_80 g s s_.1 s_.2.1 s_.2.2) 4096 (0, 0, c)) (fun o => o.1 = (bpN v (w, G, nI 0, nI 0) (vC v)).2.2.2 ∧ CT g o.2 X s v (bpN v (w, G, nI 0, nI 0) (vC v)).1 ∧ RH o.2 s (vN v) (bpN v (w, G, nI 0, nI 0) (vC v)).2.1 ∧ CF X s c o.2 ∧ KS s c o.2) := by
  obtain ⟨hX, -, -, -, -, hb, -⟩ := id hx
  have hc := hb.1
  have hsX := ht.2.2.2
  refine itr_for (fun k p => ∃ c', p = ((bpN v (w, G, nI 0, nI 0) k).2.2.2, nI k, c') ∧ CT g c' X s v (bpN v (w, G, nI 0, nI 0) k).1 ∧ RH c' s (vN v) (bpN v (w, G, nI 0, nI 0) k).2.1 ∧ CF X s c c' ∧ KS s c c') _ 0 (vC v) ?_ ?_ (by omega) (by omega) ⟨c, rfl, ht, hG, CF.refl X s c, KS.refl s c⟩
  · rintro k p - hk ⟨c', rfl, ht', hG', hf, hks⟩
    have hx' := hx.cf hsX hf
    have hN : bpN v (w, G, nI 0, nI 0) (k + 1) = bpS v k (bpN v (w, G, nI 0, nI 0) k) := rfl
    generalize bpN v (w, G, nI 0, nI 0) (k + 1) = S' at *
    generalize bpN v (w, G, nI 0, nI 0) k = S at *
    show OK (Bc_X5_passes_80 g s S.2.2.2 (nI k) c') _
    unfold Bc_X5_passes_80 Jc_X5_passes_109
    have h2 : ¬ nI (vC v) ≤ nI k := by rw [nI_leI (by omega) (by omega)]; omega
    simp only [ht.1.1, ht.1.2.1, hX, C_columns hX hx'.2.1 hx'.2.2.1.b, h2, reduceIte, Option.bind_some, xbd_some]
    refine OK_bd (C_isBend hx' ht' hk) (fun q c2 hq => ?_)
    have hq1 : q = _ := hq.1
    rw [hq1, nl_0, nl_1]
    simp only [b32_0, nI_add]
    unfold bpS at hN
    have hf2 := hf.trans (hq.2.cf (s := s))
    have hks2 := hks.trans (hq.2.ks hsX.1)
    have hG2 : RH c2 s (vN v) S.2.1 := hG'.of (fun j => (hq.2 (s + 67) (by omega)).2.2.2.1 j)
    cases h9 : bendS v S.1 k with
    | false =>
      rw [h9] at hN
      simp only [Bool.false_eq_true, reduceIte] at hN
      subst hN
      simp only [reduceIte]
      exact ⟨_, rfl, Or.inl ⟨_, rfl, c2, by rw [show S'.2.2.2 + nI 0 = S'.2.2.2 from Int32.add_zero _], ht'.cn hq.2, hG2, hf2, hks2⟩⟩
    | true =>
      rw [h9] at hN
      simp only [reduceIte] at hN
      simp only [Bool.true_eq_false, reduceIte]
      refine OK_bd (C_pays (hx'.cn hq.2) (ht'.cn hq.2) hG2 hk) (fun r c3 h3 => ?_)
      obtain ⟨p1, p2, p3, p4, p5⟩ := h3
      have p1' : r = _ := p1
      subst hN
      exact ⟨_, rfl, Or.inl ⟨_, rfl, c3, by rw [p1'], p2, p3, hf2.trans p4, hks2.trans p5⟩⟩
  · rintro p ⟨c', rfl, ht', hG', hf, hks⟩
    have hx' := hx.cf hsX hf
    show OK (Bc_X5_passes_80 g s (bpN v (w, G, nI 0, nI 0) (vC v)).2.2.2 (nI (vC v)) c') _
    unfold Bc_X5_passes_80
    have h2 : nI (vC v) ≤ nI (vC v) := by rw [nI_leI (by omega) (by omega)]; omega
    simp only [ht.1.1, ht.1.2.1, hX, C_columns hX hx'.2.1 hx'.2.2.1.b, h2, reduceIte, Option.bind_some, xbd_some]
    exact ⟨_, rfl, _, rfl, rfl, ht', hG', hf, hks⟩
theorem CT.uI {x : Int32} {n : Nat} (hb : VB v) (h : CT g c X s v w) (hn : n ≤ 1) (h0 : n = 0 → ∃ m, m ≤ 5000 ∧ x = nI m) : CT g (uI c (600 + n) s x) X s v (upd w n x) := by
  obtain ⟨hs, ⟨h1, h2, h3, h4, h5, h6⟩, ⟨k1, k2, k3, k4, k5⟩, hX⟩ := h
  have hc := hb.1
  refine ⟨hs, ⟨?_, ?_, fun i hi => ?_, fun i r hi hr => ?_, fun i r hi hr => ?_, fun k hk => ⟨?_, ?_⟩⟩, ⟨fun i hi => ?_, ?_, fun k hk => ?_, fun k hk => ?_, fun k hk => ⟨?_, ?_⟩⟩, hX⟩
  · rw [cI_uI]
    by_cases e : n = 0
    · subst e; rw [if_pos ⟨rfl, rfl⟩, pk_us]
    · rw [if_neg (by omega), pk_un (by omega)]; exact h1
  · rw [cI_uI]
    by_cases e : n = 1
    · subst e; rw [if_pos ⟨rfl, rfl⟩, pk_us]
    · rw [if_neg (by omega), pk_un (by omega)]; exact h2
  · rw [pk_un (by omega)]; exact h3 i hi
  · rw [pk_un (by omega)]; exact h4 i r hi hr
  · rw [pk_un (by omega)]; exact h5 i r hi hr
  · rw [pk_un (by omega)]; exact (h6 k hk).1
  · rw [pk_un (by omega)]; exact (h6 k hk).2
  · rw [pk_un (by omega)]; exact k1 i hi
  · by_cases e : n = 0
    · subst e; rw [pk_us]; exact h0 rfl
    · rw [pk_un (by omega)]; exact k2
  · rw [pk_un (by omega)]; exact k3 k hk
  · rw [pk_un (by omega)]; exact k4 k hk
  · rw [pk_un (by omega)]; exact (k5 k hk).1
  · rw [pk_un (by omega)]; exact (k5 k hk).2
theorem KS.uI {c' : CC} {k : Nat} {x : Int32} (h : KS s c c') (hk : k ≠ 602) : KS s c (uI c' k s x) := ⟨by rw [cI_uI, if_neg (fun e => hk e.1.symm)]; exact h.1, fun a h1 h2 => (h.2 a h1 h2).uI (by omega)⟩
/-- a season of the component -/
theorem C_passes {G : Nat → Int32} {K n : Nat} {π : Nat → Nat} (hx : CX g c X V v lo hi) (ht : CT g c X s v w) (hG : RH c s (vN v) G) (hK : RKp c s K π) (hn : w 0 = nI n) (hn2 : n < 5000) : OK (f_c_X5_passes g s c) (fun o => o.1 = (seasonP v w G).2.2.2 ∧ CT g o.2 X s v (seasonW v true w G) ∧ RH o.2 s (vN v) (seasonP v w G).2.1 ∧ CF X s c o.2 ∧ ∃ K' π', RKp o.2 s K' π' ∧ (RKw c s K π w → RKw o.2 s K' π' (seasonW v false w G))) := by
  obtain ⟨hX, -, -, -, -, hb, -⟩ := id hx
  have hc := hb.1
  have hsX := ht.2.2.2
  unfold f_c_X5_passes
  refine OK_bind (C_moveN hx ht) (fun c1 q1 => ?_)
  obtain ⟨t1, f1, k1, g1⟩ := q1
  refine OK_bind (C_everN (hx.cf hsX f1) t1) (fun c2 q2 => ?_)
  obtain ⟨t2, f2, k2, g2⟩ := q2
  have f12 := f1.trans f2
  have hG2 : RH c2 s (vN v) G := (hG.of g1).of g2
  refine OK_bind (C_bpN (hx.cf hsX f12) t2 hG2) (fun o q3 => ?_)
  obtain ⟨p, c3⟩ := o
  obtain ⟨p1, t3, g3, f3, k3⟩ := q3
  have hcount := bp_count (w := everN (moveN v w (vC v)) (vC v)) (G := G) hb (vC v) (Nat.le_refl _)
  have hout : ∀ j, (j < 2 ∨ 182 ≤ j) → (seasonP v w G).1 j = w j := by
    intro j hj
    unfold seasonP
    rw [bpN_out hb (by omega)]
    show everN (moveN v w (vC v)) (vC v) j = w j
    rcases hj with hj | hj
    · rw [everN_out (by omega), moveN_out (by omega) _ hc]
    · have e : ∀ k, k ≤ vC v → everN (moveN v w (vC v)) k j = w j := by
        intro k
        induction k with
        | zero => intro _; exact moveN_out (by omega) _ hc
        | succ k ih =>
          intro hk
          show everS (everN (moveN v w (vC v)) k) k j = w j
          obtain ⟨r, hr1, hr2⟩ := everN_WR hb (moveN_WR hb ht.2.2.1.1 (vC v)) k k (by omega)
          have := hb.2.1
          rw [everS_out (by rw [hr2, nI_clamp (by omega)]; omega)]
          exact ih (by omega)
      exact e _ (Nat.le_refl _)
  have hb0 : ∀ j, j < 172 → (bpN v (everN (moveN v w (vC v)) (vC v), G, nI 0, nI 0) (vC v)).1 j = everN (moveN v w (vC v)) (vC v) j := fun j hj => bpN_out hb (by omega) _
  have hS : bpN v (everN (moveN v w (vC v)) (vC v), G, nI 0, nI 0) (vC v) = seasonP v w G := rfl
  rw [hS] at p1 t3 g3 hcount hb0
  generalize hSS : seasonP v w G = S at *
  obtain ⟨w3, G3, b3, p3⟩ := S
  simp only at p1 t3 g3 hcount hout hb0
  subst p1
  have f123 := f12.trans f3
  have k123 := (k1.trans k2).trans k3
  rw [if_pos ht.1.1, C_min, xbd_some, nl_999999]
  have e601 : cI c3 601 s = w3 1 := t3.2.1.2.1
  simp only [e601]
  have hfund : (if w3 1 + p < nI 999999 then w3 1 + p else nI 999999) = (if w3 1 + p ≤ nI 999999 then w3 1 + p else nI 999999) := by
    by_cases h1 : w3 1 + p < nI 999999
    · rw [if_pos h1, if_pos (by rw [i32_le]; rw [i32_lt] at h1; omega)]
    · rw [if_neg h1]
      by_cases h2 : w3 1 + p ≤ nI 999999
      · rw [if_pos h2, i32_eq]
        rw [i32_lt] at h1
        rw [i32_le] at h2
        omega
      · rw [if_neg h2]
  rw [hfund]
  have t4 : CT g (uI c3 601 s (if w3 1 + p ≤ nI 999999 then w3 1 + p else nI 999999)) X s v (fundS w3 p) := CT.uI (n := 1) hb t3 (by omega) (fun h => by omega)
  have f4 : CF X s c (uI c3 601 s (if w3 1 + p ≤ nI 999999 then w3 1 + p else nI 999999)) := f123.uI (by omega)
  have k4 : KS s c (uI c3 601 s (if w3 1 + p ≤ nI 999999 then w3 1 + p else nI 999999)) := k123.uI (by omega)
  have g4 : RH (uI c3 601 s (if w3 1 + p ≤ nI 999999 then w3 1 + p else nI 999999)) s (vN v) G3 := g3
  generalize uI c3 601 s (if w3 1 + p ≤ nI 999999 then w3 1 + p else nI 999999) = c4 at *
  refine OK_bd (C_bends (hx.cf hsX f4) t4) (fun q c5 q5 => ?_)
  have hq : q = b3 := by
    have h9 : q = _ := q5.1
    rw [h9, hcount]
    exact bendsN_cong hb (by unfold fundS; rw [pk_un (by omega)]; exact hb0 0 (by omega)) (fun i h1 h2 => by unfold fundS; rw [pk_un (by omega)]; exact hb0 i (by omega)) _ (Nat.le_refl _)
  subst hq
  have t5 := t4.cn q5.2
  have f5 := f4.trans (q5.2.cf (s := s))
  have k5 := k4.trans (q5.2.ks hsX.1)
  have g5 : RH c5 s (vN v) G3 := g4.of (fun j => (q5.2 (s + 67) (by omega)).2.2.2.1 j)
  have hK5 := hK.of k5
  refine OK_bind (C_tells (b := q) (p := p) ht.1 hK5) (fun c6 q6 => ?_)
  obtain ⟨f6, i6, a6, h6, K', π', hK6, hw6⟩ := q6
  have e600 : cI c5 600 s = fundS w3 p 0 := t5.2.1.1
  have e0 : fundS w3 p 0 = nI n := by unfold fundS; rw [pk_un (by omega), hout 0 (by omega)]; exact hn
  have t6 : CT g c6 X s v (fundS w3 p) := by
    obtain ⟨hs, ⟨r1, r2, r3, r4, r5, r6⟩, hW, hh⟩ := t5
    refine ⟨hs, ⟨by rw [i6 600 (by omega)]; exact r1, by rw [i6 601 (by omega)]; exact r2, fun i hi => by rw [(a6 (s + 1) (by omega) (by omega)).2.2.2.1]; exact r3 i hi, fun i r hi hr => by rw [(a6 (s + 5 + i) (by omega) (by omega)).2.2.2.1]; exact r4 i r hi hr, fun i r hi hr => by rw [(a6 (s + 16 + i) (by omega) (by omega)).2.2.2.1]; exact r5 i r hi hr, fun k hk => ⟨by rw [(a6 (s + 3) (by omega) (by omega)).2.2.2.1]; exact (r6 k hk).1, by rw [(a6 (s + 2) (by omega) (by omega)).2.2.2.1]; exact (r6 k hk).2⟩⟩, hW, hh⟩
  have e6 : cI c6 600 s = nI n := by rw [i6 600 (by omega), e600]; exact e0
  rw [e6, nl_1, nI_add]
  have t7 : CT g (uI c6 600 s (nI (n + 1))) X s v (upd (fundS w3 p) 0 (nI (n + 1))) := CT.uI (n := 0) hb t6 (by omega) (fun _ => ⟨n + 1, by omega, rfl⟩)
  refine ⟨_, rfl, rfl, ?_, ?_, (f5.trans f6).uI (by omega), K', π', hK6.of ((KS.refl s c6).uI (by omega)), fun hw => ?_⟩
  · have e9 : seasonW v true w G = upd (fundS w3 p) 0 (nI (n + 1)) := by
      unfold seasonW
      rw [hSS]
      simp only [reduceIte]
      rw [e0, nI_add]
    rw [e9]
    exact t7
  · exact fun k hk => by rw [cA_uI, h6.2.2.2.1]; exact g5 k hk
  · have hw5 : RKw c5 s K π (fundS w3 p) := RKw.of hK hw k5 (fun i hi => by unfold fundS; rw [pk_un (by omega)]; exact hout i (by omega))
    have hw7 := hw6 _ hw5 e600.symm
    refine RKw.of hK6 hw7 ((KS.refl s c6).uI (by omega)) (fun i hi => ?_)
    unfold seasonW
    rw [hSS]
    simp only [Bool.false_eq_true, reduceIte]
    rw [pk_un (by omega)]
end CP
