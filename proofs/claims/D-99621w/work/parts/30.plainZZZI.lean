/-! PLAIN LAW: the component reads an atom; sums -/
set_option maxRecDepth 100000
section ZZI1
variable {kx X n h o a : Nat} {B : Nat → Nat} {τ τ1 : CS} {su ra : Nat → CS → Option ((Nat ⊕ Nat) × CS)}
theorem ask_inj {i j : Nat} (hi : i < 18) (hj : j < 18) (e : askL.getD i [] = askL.getD j []) : i = j := by
  rw [← allW_ask i hi, ← allW_ask j hj] at e
  have := allW_inj i (by omega) j (by omega) e
  omega
/-- a number, with its cell -/
theorem C_numP {lo hi : Nat} (hP : PI τ X n B a o) (hlo : lo < 2147483648) (hhi : hi < 2147483648) : OK (f_x_X2_number (X + 28) (nI lo) (nI hi) τ) (fun r => PF X τ r.2 ∧ r.2.1 = τ.1 ∧ match numR B n (sk B n a) lo hi with
    | .inl (k, p) => r.1 = .inr (X + 29) ∧ FLT r.2.2 X k p
    | .inr (v, e) => r.1 = .inl (nI v) ∧ PI r.2 X n B e o ∧ cI r.2.2 303 (X + 28) = nI (sk B n a)) := by
  obtain ⟨h1, h2, h3, h4, h5, h6⟩ := hP.1
  obtain ⟨⟨rr, τ2⟩, e1, q1, q2, q3, q4⟩ := C_number (g := τ.1) (c := τ.2) (lo := lo) (hi := hi) h1 h3 hlo hhi
  obtain ⟨g2, c2⟩ := τ2
  dsimp only at q1 q2 q3 q4
  subst q1
  have pf : PF X τ (τ.1, c2) := q2.pf
  refine ⟨_, e1, pf, rfl, ?_⟩
  cases hh : numR B n (sk B n a) lo hi with
  | inl f =>
    obtain ⟨k, p⟩ := f
    rw [hh] at q4
    exact q4
  | inr f =>
    obtain ⟨v, e⟩ := f
    rw [hh] at q4
    obtain ⟨q5, q6, q7⟩ := q4
    exact ⟨q5, hP.pf pf ⟨h1, h2, q6, fun i hi hb => by rw [(q2.1 (X + 27) (by omega) (by omega)).2.2.2.1]; exact h4 i hi hb, by rw [q3]; exact h5, h6⟩, q7⟩
theorem numR_in {p lo hi v e : Nat} (h : numR B n p lo hi = .inr (v, e)) : lo ≤ v ∧ v ≤ hi ∧ p < e ∧ e ≤ n := by
  unfold numR at h
  by_cases c1 : dgB (cur B n p) = false ∨ alB B p = true
  · rw [if_pos c1] at h; cases h
  · rw [if_neg c1] at h
    by_cases c2 : 4 < de B n p - p
    · rw [if_pos c2] at h; cases h
    · rw [if_neg c2] at h
      by_cases c3 : lo ≤ dv B p (de B n p - p) ∧ dv B p (de B n p - p) ≤ hi
      · rw [if_pos c3] at h
        have h : (dv B p (de B n p - p), de B n p) = (v, e) := by injection h
        have e1 : dv B p (de B n p - p) = v := by injection h
        have e2 : de B n p = e := by injection h
        have c4 : dgB (cur B n p) = true := by
          cases hd : dgB (cur B n p) with
          | false => exact absurd (Or.inl hd) c1
          | true => rfl
        unfold cur at c4
        by_cases c5 : p < n
        · rw [if_pos c5] at c4
          have e3 := de_b (B := B) (n := n) c5 c4
          have e4 := de_g (B := B) (n := n) (a := p + 1) (by omega)
          omega
        · rw [if_neg c5] at c4; exact absurd c4 (by decide)
      · rw [if_neg c3] at h; cases h
/-- an atom -/
theorem C_atom (hk2 : kx ≤ 2) (hsu : SubV kx X n B h 0 (o + 1) 0 0 su) (hra : SubV kx X n B h 4 (o + 1) 20 200 ra) : SubV kx X n B (h + 1) 4 o 20 200 (f_x_X2_atom su ra) := by
  intro τ a hpre
  obtain ⟨hP, hcx, hm1, hm2⟩ := hpre
  obtain ⟨ha1, hn, hgz, ho⟩ := hP.le
  have g := sk_g (B := B) ha1
  have hi := sk_i (B := B) ha1
  have hcu := hP.1.2.2.1.cur_le (p := sk B n a)
  have t3 := hP.1.1.2.2.1
  have piS : PI (τ.1, uI τ.2 302 (X + 28) (nI (sk B n a))) X n B (sk B n a) o := hP.pf PF.at2 (hP.1.at2 g.2.1)
  have pfS : PF X τ (τ.1, uI τ.2 302 (X + 28) (nI (sk B n a))) := PF.at2
  have cxS : cI (uI τ.2 302 (X + 28) (nI (sk B n a))) 305 (X + 28) = nI (ctx kx) := by rw [cI_uI, if_neg (by omega)]; exact hcx
  have hhS := C_here piS.1.1 piS.1.2.2.1
  dsimp only at hhS
  rw [hi, uI_uI] at hhS
  show OK (f_x_X2_atom su ra (X + 28) τ) (WPost (fun r => Parse B n kx 4 o a [] r) kx X n B (h + 1) o a 20 200 τ)
  have par : ∀ r, atS B n kx (Parse B n kx) o (sk B n a) r → Parse B n kx 4 o a [] r := fun r hr => Parse.step (Or.inr (Or.inr (Or.inr (Or.inr (Or.inl ⟨rfl, hr⟩)))))
  generalize hcS : uI τ.2 302 (X + 28) (nI (sk B n a)) = cS at *
  unfold f_x_X2_atom
  rw [if_pos t3, C_here hP.1.1 hP.1.2.2.1, xbd_some, hcS]
  by_cases hc : cur B n (sk B n a) = 40
  · rw [hc, if_pos (by decide)]
    obtain ⟨⟨r1, τ1⟩, e1, w1⟩ := C_within0 hsu piS cxS ⟨by show _ ≤ grc τ.1 + 20; omega, by show _ ≤ grs τ.1 + 200; omega⟩ (by rw [hi]; exact hc)
    rw [hi] at w1
    have w2 : WPost (fun r => Parse B n kx 4 o a [] r) kx X n B (h + 1) o a 20 200 τ (r1, τ1) := w1.back pfS (fun r hr => par r (Or.inl ⟨hc, hr⟩)) g.1 g.2.1 (by omega) (by show grc τ.1 + 20 ≤ grc τ.1 + 20 + _; omega) (by show grs τ.1 + 200 ≤ grs τ.1 + 200 + _; omega)
    rw [e1]
    cases r1 with
    | inl v => exact ⟨_, rfl, w2⟩
    | inr v => exact ⟨_, rfl, w2⟩
  · rw [if_neg (by show ¬ chI _ = nI 40; rw [ch_ne hcu (by omega)]; exact hc), hhS, xbd_some, C_isDigit hcu, xbd_some]
    cases hdg : dgB (cur B n (sk B n a)) with
    | true =>
      rw [if_neg (show ¬ b32 true = 0 by decide)]
      obtain ⟨τ4, e4, st4, z4, t4, c4, s4⟩ := C_new (t := 10) (τ := (τ.1, cS)) (by show 1 ≤ grc τ.1; omega) (by show 1 ≤ grs τ.1; omega)
      have s4 : grs τ4.1 = grs τ.1 - 1 := s4
      have c4 : grc τ4.1 = grc τ.1 - 1 := c4
      dsimp only at e4 st4 z4 t4
      have pi4 : PI τ4 X n B (sk B n a) o := piS.st st4 (by show X + 1671 ≤ gz τ.1; omega)
      have pf4 : PF X τ τ4 := pfS.st st4 (Nat.le_refl _) (by omega)
      rw [e4, xbd_some, if_pos pi4.1.1.2.2.1]
      obtain ⟨⟨r5, τ5⟩, e5, p5, g5, m5⟩ := C_numP (lo := 0) (hi := 9999) pi4 (by omega) (by omega)
      rw [hi] at m5
      rw [show (0 : Int32) = nI 0 from rfl, show (9999 : Int32) = nI 9999 from rfl, e5]
      dsimp only at p5 g5 m5
      have gg5 : grc τ5.1 = grc τ.1 - 1 ∧ grs τ5.1 = grs τ.1 - 1 ∧ gz τ5.1 = gz τ.1 + 1 := by rw [g5]; exact ⟨c4, s4, z4⟩
      cases hnr : numR B n (sk B n a) 0 9999 with
      | inl f =>
        obtain ⟨k, q⟩ := f
        rw [hnr] at m5
        obtain ⟨m6, m7⟩ := m5
        subst m6
        refine OK_some ⟨pf4.trans p5, Or.inl ⟨k, q, rfl, m7, par _ (Or.inr (Or.inl ⟨hdg, ?_⟩)), by dsimp only; omega, by dsimp only; omega⟩⟩
        unfold numA
        rw [hnr]
      | inr f =>
        obtain ⟨v, e⟩ := f
        rw [hnr] at m5
        obtain ⟨m6, m7, -⟩ := m5
        subst m6
        obtain ⟨v1, v2, v3, v4⟩ := numR_in hnr
        have t5 : gT τ5.1 (gz τ.1) = 10 := by rw [g5]; exact t4
        have st9 : STz (gz τ.1) τ5 (τ5.1, uL τ5.2 1000 (gz τ.1) (nI v).toInt64) := ⟨Nat.le_refl _, AgG.refl _ _ _, fun b hb => (Eq1.refl τ5.2 b).uL (by omega)⟩
        rw [xbx_l]
        unfold f_a_X11_init f_a_X8_init
        rw [Option.bind_some, if_pos t5, Option.bind_some]
        refine OK_some ⟨(pf4.trans p5).st st9 (Nat.le_refl _) (by omega), Or.inr ⟨gz τ.1, [1000 + v], e, rfl, par _ (Or.inr (Or.inl ⟨hdg, ?_⟩)), m7.st st9 hgz, ?_, by omega, ?_, ?_⟩⟩
        · unfold numA
          rw [hnr]
        · refine (VAL_fixed (kx := kx) (X := X) (z := gz τ.1) (v := v) (hi := gz τ5.1) t5 ?_ v2 (by omega)).up (by omega) (Nat.le_refl _) (Nat.le_refl _)
          show cL (uL τ5.2 1000 (gz τ.1) (nI v).toInt64) 1000 (gz τ.1) = _
          rw [cL_uL, if_pos ⟨rfl, rfl⟩]
        · show grc τ.1 + 20 ≤ grc τ5.1 + _
          omega
        · show grs τ.1 + 200 ≤ grs τ5.1 + _
          omega
    | false =>
      rw [if_pos (show b32 false = 0 by decide)]
      obtain ⟨⟨rr, τ7⟩, e7, p7, q7, n7⟩ := C_word piS.1 (by show 3 ≤ grc τ.1; omega) (by show _ ≤ grs τ.1; omega)
      rw [hi] at q7 n7
      rw [e7]
      dsimp only at p7 q7 n7
      cases hok : okW B n (sk B n a) with
      | false =>
        obtain ⟨m1, m2, m3⟩ := n7 hok
        subst m1
        have gg : grc τ7.1 = grc τ.1 ∧ grs τ7.1 = grs τ.1 := by rw [m3]; exact ⟨rfl, rfl⟩
        exact OK_some ⟨pfS.trans p7, Or.inl ⟨1, sk B n a, rfl, m2, par _ (Or.inr (Or.inr (Or.inl ⟨hc, hdg, hok, rfl⟩))), by dsimp only; omega, by dsimp only; omega⟩⟩
      | true =>
        obtain ⟨m1, m2, m3, m4, m5, m6, m7, m8⟩ := q7 hok
        subst m1
        obtain ⟨w1, w2, w3⟩ := okW_gt hok
        have pi7 : PI τ7 X n B (we B n (sk B n a)) o := piS.pf p7 m2
        have pf7 : PF X τ τ7 := pfS.trans p7
        have cx7 : cI τ7.2 305 (X + 28) = nI (ctx kx) := by rw [pf7.2.2.2.1 305 (by omega) (by omega) (by omega)]; exact hcx
        have m7 : grc τ7.1 + 3 = grc τ.1 := m7
        have m8 : grs τ7.1 + (2 * (we B n (sk B n a) - sk B n a) + 4) = grs τ.1 := m8
        have m6 : gz τ7.1 = gz τ.1 + 3 := m6
        have parW : ∀ r, atW B n kx (Parse B n kx) o (sk B n a) r → Parse B n kx 4 o a [] r := fun r hr => par r (Or.inr (Or.inr (Or.inr ⟨hok, hr⟩)))
        rw [xbx_l]
        obtain ⟨⟨r8, c8⟩, e8, q8, f8⟩ := C_find (k := 1) pi7.2.2.2.1 ok_ask (by decide) m3 w3
        have q8 : c8 = τ7.2 := q8
        subst q8
        have f9 : fndR askL (wd B n (sk B n a)) r8 := f8
        clear f8
        rw [e8, xbd_some]
        have h80 : (∀ k, k < 18 → askL.getD k [] = wd B n (sk B n a) → alw kx k = false) → OK (Jc_X2_atom_80 su ra (X + 28) (gz τ.1 + 1) τ7) (WPost (fun r => Parse B n kx 4 o a [] r) kx X n B (h + 1) o a 20 200 τ) := by
          intro hno
          obtain ⟨⟨r9, τ9⟩, e9, w9⟩ := C_80 (P := fun r => Parse B n kx 4 o a [] r) (s := sk B n a) hk2 hsu hra pi7 m5 cx7 ⟨by omega, by omega⟩ m3 w3 (fun r hr => parW r (Or.inr (Or.inl hr))) (fun r t ht hL hr => parW r (Or.inr (Or.inr (Or.inl ⟨t, ht, hL, hr⟩)))) (fun u1 u2 => parW _ (Or.inr (Or.inr (Or.inr ⟨hno, u1, u2, rfl⟩))))
          exact ⟨_, e9, w9.back pf7 (fun r hr => hr) (by omega) w2 (Nat.le_refl _) (by omega) (by omega)⟩
        rcases f9 with ⟨k, k1, rfl, k2, k3⟩ | ⟨rfl, k1⟩
        · have k1 : k < 18 := k1
          rw [if_neg (nI_m (by omega)), if_pos pi7.1.1.2.2.1, cx7, C_hasK hk2 k1, xbd_some]
          cases hal : alw kx k with
          | false =>
            rw [if_pos (show b32 false = 0 by decide)]
            exact h80 (fun k' hk' e => by rw [ask_inj hk' k1 (e.trans k2.symm)]; exact hal)
          | true =>
            rw [if_neg (show ¬ b32 true = 0 by decide)]
            obtain ⟨τ4, e4, st4, z4, t4, c4, s4⟩ := C_new (t := 11) (τ := τ7) (by omega) (by show 1 ≤ _; omega)
            have s4 : grs τ4.1 = grs τ7.1 - 1 := s4
            have st9 : STz (gz τ7.1) τ4 (τ4.1, uI τ4.2 1100 (gz τ7.1) (nI k)) := ⟨Nat.le_refl _, AgG.refl _ _ _, fun b hb => (Eq1.refl τ4.2 b).uI (by omega)⟩
            have st10 := st4.trans st9
            rw [show aNew 11 (τ7.1, τ7.2) = _ from e4, xbd_some]
            unfold f_a_X12_init f_a_X8_init
            rw [Option.bind_some, if_pos t4, Option.bind_some]
            refine OK_some ⟨pf7.st st10 (by omega) (by omega), Or.inr ⟨gz τ7.1, [40 + k], we B n (sk B n a), rfl, parW _ (Or.inl ⟨k, k1, k2, hal, rfl⟩), pi7.st st10 (by omega), ?_, by omega, ?_, ?_⟩⟩
            · refine (VAL_asked (kx := kx) (X := X) (z := gz τ7.1) (v := k) (hi := gz τ4.1) t4 ?_ k1 hal (by omega)).up (by omega) (by omega) (Nat.le_refl _)
              show cI (uI τ4.2 1100 (gz τ7.1) (nI k)) 1100 (gz τ7.1) = _
              rw [cI_uI, if_pos ⟨rfl, rfl⟩]
            · show grc τ.1 + 20 ≤ grc τ4.1 + _
              omega
            · show grs τ.1 + 200 ≤ grs τ4.1 + _
              omega
        · rw [if_pos rfl]
          exact h80 (fun k hk e => absurd e (k1 k hk))
/-- products, sums -/
theorem C_product {s : Nat → CS → Option ((Nat ⊕ Nat) × CS)} (hs : SubV kx X n B h 4 o 20 200 s) : SubV kx X n B (h + 1) 2 o 10 100 (chW s 42 47) := by
  refine chn_all (m := 4) (mr := 3) (x := 42) (y := 47) (by omega) (by omega) hs (Or.inl rfl) (Or.inr (Or.inr (Or.inr rfl))) (fun a acc r hc hr => ?_) (fun a acc h1 h2 => ?_) (fun a r hr => Parse.step (Or.inr (Or.inr (Or.inl ⟨rfl, hr⟩))))
  · refine Parse.step (Or.inr (Or.inr (Or.inr (Or.inl ⟨rfl, Or.inl ⟨hc, ?_⟩⟩))))
    have e : (if cur B n (sk B n a) = 42 then 3 else 4) = sgC (cur B n (sk B n a)) := by rcases hc with e | e <;> rw [e] <;> rfl
    rw [e]; exact hr
  · exact Parse.step (Or.inr (Or.inr (Or.inr (Or.inl ⟨rfl, Or.inr ⟨h1, h2, rfl⟩⟩))))
theorem C_sum {s : Nat → CS → Option ((Nat ⊕ Nat) × CS)} (hs : SubV kx X n B h 2 o 10 100 s) : SubV kx X n B (h + 1) 0 o 0 0 (chW s 43 45) := by
  refine chn_all (m := 2) (mr := 1) (x := 43) (y := 45) (by omega) (by omega) hs (Or.inr (Or.inl rfl)) (Or.inr (Or.inr (Or.inl rfl))) (fun a acc r hc hr => ?_) (fun a acc h1 h2 => ?_) (fun a r hr => Parse.step (Or.inl ⟨rfl, hr⟩))
  · refine Parse.step (Or.inr (Or.inl ⟨rfl, Or.inl ⟨hc, ?_⟩⟩))
    have e : (if cur B n (sk B n a) = 43 then 1 else 2) = sgC (cur B n (sk B n a)) := by rcases hc with e | e <;> rw [e] <;> rfl
    rw [e]; exact hr
  · exact Parse.step (Or.inr (Or.inl ⟨rfl, Or.inr ⟨h1, h2, rfl⟩⟩))
theorem SubV.up {h2 m R1 R2 : Nat} {f : Nat → CS → Option ((Nat ⊕ Nat) × CS)} (s : SubV kx X n B h m o R1 R2 f) (hh : h ≤ h2) : SubV kx X n B h2 m o R1 R2 f := fun τ a hp => by
  obtain ⟨r, e, p, w⟩ := s τ a hp
  refine ⟨r, e, p, ?_⟩
  rcases w with w | ⟨ev, cs, a', u1, u2, u3, u4, u5⟩
  · exact Or.inl w
  · exact Or.inr ⟨ev, cs, a', u1, u2, u3, u4.up hh (Nat.le_refl _) (Nat.le_refl _), u5⟩
/-- sums and atoms, by depth -/
theorem C_sura (hk2 : kx ≤ 2) : ∀ D o, 7 ≤ D + o → SubV kx X n B (3 * D + 2) 0 o 0 0 (d_su D) ∧ SubV kx X n B (3 * D + 2) 4 o 20 200 (d_ra D)
  | 0, o, h => ⟨fun τ a hp => absurd hp.1.le.2.2.2 (by omega), fun τ a hp => absurd hp.1.le.2.2.2 (by omega)⟩
  | D + 1, o, h => by
    obtain ⟨h1, h2⟩ := C_sura hk2 D (o + 1) (by omega)
    have ha := C_atom hk2 h1 h2
    have hs := C_sum (C_product ha)
    exact ⟨hs.up (by omega), ha.up (by omega)⟩
end ZZI1
