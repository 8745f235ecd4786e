/-! PLAIN LAW: rest of both -/
set_option maxRecDepth 100000
theorem xor_nI : ∀ S, S < 32 → ∀ l, l < 5 → nI S ^^^ ((1 : Int32) <<< (nI l &&& 31)) = nI (S ^^^ 2 ^ l) := by decide
def popN (S : Nat) : Nat := S % 2 + S / 2 % 2 + S / 4 % 2 + S / 8 % 2 + S / 16 % 2
theorem pop_c : ∀ S, S < 32 → ∀ g c, f_c_J16_bitCount g (nI S) c = some (nI (popN S), c) := by
  intro S hS g c
  rcases (show S = 0 ∨ S = 1 ∨ S = 2 ∨ S = 3 ∨ S = 4 ∨ S = 5 ∨ S = 6 ∨ S = 7 ∨ S = 8 ∨ S = 9 ∨ S = 10 ∨ S = 11 ∨ S = 12 ∨ S = 13 ∨ S = 14 ∨ S = 15 ∨ S = 16 ∨ S = 17 ∨ S = 18 ∨ S = 19 ∨ S = 20 ∨ S = 21 ∨ S = 22 ∨ S = 23 ∨ S = 24 ∨ S = 25 ∨ S = 26 ∨ S = 27 ∨ S = 28 ∨ S = 29 ∨ S = 30 ∨ S = 31 by omega) with rfl | rfl | rfl | rfl | rfl | rfl | rfl | rfl | rfl | rfl | rfl | rfl | rfl | rfl | rfl | rfl | rfl | rfl | rfl | rfl | rfl | rfl | rfl | rfl | rfl | rfl | rfl | rfl | rfl | rfl | rfl | rfl <;> rfl
theorem pop_s : ∀ S, S < 32 → S ≠ 0 → nI S &&& (nI S - 1) = nI (S &&& (S - 1)) ∧ (S &&& (S - 1)) < S ∧ popN S = popN (S &&& (S - 1)) + 1 := by decide
theorem pop_l (q : TS) : ∀ d S acc f, S ≤ d → S < 32 → d < f → itr (fun s_ : Int32 × Int32 × TS => Bt_bits_4 s_.1 s_.2.1 s_.2.2) f (nI acc, nI S, q) = some (nI (acc + popN S), q)
  | 0, S, acc, f, h1, h2, h3 => by
    have e : S = 0 := by omega
    subst e
    obtain ⟨f, rfl⟩ : ∃ m, f = m + 1 := ⟨f - 1, by omega⟩
    exact itr_inr rfl
  | d + 1, S, acc, f, h1, h2, h3 => by
    obtain ⟨f, rfl⟩ : ∃ m, f = m + 1 := ⟨f - 1, by omega⟩
    by_cases e : S = 0
    · subst e; exact itr_inr rfl
    · obtain ⟨a1, a2, a3⟩ := pop_s S h2 e
      have eB : Bt_bits_4 (nI acc) (nI S) q = some (.inl (nI (acc + 1), nI (S &&& (S - 1)), q)) := by
        unfold Bt_bits_4
        rw [if_neg (show ¬ nI S = 0 by show ¬ nI S = nI 0; rw [nI_eq (by omega) (by omega)]; exact e), a1, nl_1, nI_add]
      have e2 := pop_l q d (S &&& (S - 1)) (acc + 1) f (by omega) (by omega) (by omega)
      rw [a3, show acc + (popN (S &&& (S - 1)) + 1) = acc + 1 + popN (S &&& (S - 1)) by omega]
      exact (itr_inl eB).trans e2
theorem pop_t : ∀ S, S < 32 → ∀ q, f_t_bits (nI S) q = some (nI (popN S), q) := by
  intro S hS q
  unfold f_t_bits
  have e := pop_l q 32 S 0 4096 (by omega) hS (by omega)
  rw [Nat.zero_add] at e
  have e' : itr (fun s_ : Int32 × Int32 × TS => Bt_bits_4 s_.1 s_.2.1 s_.2.2) 4096 (0, nI S, q) = some (nI (popN S), q) := e
  rw [e']; rfl
section TUs
variable {g : CG} {c : CC} {τ q : TS} {X V s lo hi : Nat} {v : VD} {w : Nat → Int32}
theorem T_back3 (h : TK τ q w) (hh : ∀ j, 182 ≤ j → w j = tA τ 62 j) (h70 : tI τ 70 = nI 0) : OK (f_t_takesBack q) (fun q' => TX fZ aZ τ q' ∧ ∀ k i, k ≠ 62 → tA q' k i = tA q k i) := by
  unfold f_t_takesBack
  obtain ⟨q', e, r1, r2, r3, r4, r5⟩ := T_again h hh
  rw [e, Option.bind_some, nl_0]
  refine ⟨_, rfl, (r1.1.sI (Or.inl rfl)).yz ?_ r1.2.2.1, fun k i hk => r5.2.2.1 k i (by unfold in62; simp [hk])⟩
  rw [tI_sI, if_pos rfl, h70]
theorem I_havings {n n0 : Nat} (h : IV g c τ X V v lo hi) (hg : HG g X) (hw : tA τ 62 0 = nI n0) (hn : n0 + n ≤ 999) :
    OK2 (itr (fun s_ : Int32 × CC => Bc_X0_rest_15 g X (nI n) s_.1 s_.2) 4096 (0, c)) (f_t_laysHavings (nI n) τ) (fun c' q' => NZ X c c' ∧ TX fZ aZ τ q' ∧ ∀ S l, S < 2 ^ vN v → l < vN v → cA c' (X + 173 + S) l = tA q' 75 (5 * S + l)) := by
  obtain ⟨h1, h2, h3, ⟨K, π, k1, k2⟩, h5, h6, h7, -⟩ := id h
  have hb := h1.2.2.2.2.2.1
  have hvn := hb.2.2.2.1
  have hpw := pow_b hvn
  have hb1 := hb.1
  obtain ⟨q1, e1, p1, p2, p3, -, p5⟩ := T_putsAside (τ := τ)
  have tk1 : TK τ q1 (tA τ 62) := ⟨p5, p1, p3, p2⟩
  unfold f_t_laysHavings
  rw [e1, Option.bind_some]
  have hL : OK2 (itr (fun s_ : Int32 × CC => Bc_X0_rest_15 g X (nI n) s_.1 s_.2) 4096 (0, c)) (itr (fun s_ : Int32 × TS => Bt_laysHavings_6 (nI n) s_.1 s_.2) 4096 (0, q1)) (fun c' q' => NZ X c c' ∧ TK τ q' (tA τ 62) ∧ ∀ S l, S < 2 ^ vN v → l < vN v → cA c' (X + 173 + S) l = tA q' 75 (5 * S + l)) := by
    refine itr_two (fun S s t => ∃ c' q', s = (nI S, c') ∧ t = (nI S, q') ∧ NZ X c c' ∧ TK τ q' (tA τ 62) ∧ ∀ S' l, S' < S → l < vN v → cA c' (X + 173 + S') l = tA q' 75 (5 * S' + l)) _ 0 (2 ^ vN v) ?_ ?_ (by omega) (by omega) ⟨c, q1, rfl, rfl, ⟨CZ.refl X c, h5.2⟩, tk1, fun S' l hS => absurd hS (Nat.not_lt_zero _)⟩
    · rintro S s t - hS ⟨c', q', rfl, rfl, hz, tk, hA⟩
      have hI : IV g c' τ X V v lo hi := h.cz hz.1 (TX.refl _ _ τ) hz.2
      obtain ⟨⟨r, c1⟩, ea, a1, a2, a3, ⟨K1, π1, a4⟩, a5⟩ := C_aside hI
      have a1 : r = X + 103 := a1
      subst a1
      have x1 := hI.1.cf (by omega) a3
      obtain ⟨c2, eb, b1, b2, b3, b4⟩ := C_offs (x1 := nI n) x1 h2.2 a2 (show S < 32 by omega)
      have x2 := x1.cf (by omega) b2
      have hT' := h6.y tk.1
      obtain ⟨q2, ec, d1, d2, d3⟩ := T_offs (x1 := nI n) (S := S) hT' hb
      rw [tk.2.2.1] at d1
      have hT2 : TV q2 v := hT'.tx d3 ⟨rfl, rfl⟩ ⟨rfl, rfl, rfl, rfl, rfl, rfl⟩
      have hRH : RH c2 (X + 103) (vN v) (tA q2 72) := fun l hl => by rw [b4, d2 l hl]; exact a5 l (by omega)
      obtain ⟨⟨r, c3⟩, ed, f1, f2, f3, f4, f5⟩ := C_seasons (n := n0) (k := n) x2 b1 ⟨K1, π1, a4.of b3⟩ (by rw [offW_out (by omega) _ hvn]; exact hw) (by omega)
      have f1 : r = X + 103 := f1
      subst f1
      have g5 := f5 _ hRH
      have hwr : WR v (offW (tA τ 62) S (vN v)) := fun k hk => by rw [offW_out (by omega) _ hvn]; exact h3.2.2.1.1 k hk
      obtain ⟨q3, ee, i1, i2, i3⟩ := T_seasons (k := n) hT2 hb (by rw [d3.1 70 rfl rfl]; exact tk.2.2.2) (by rw [d1]; exact hwr) ⟨K, k1.2.1, by rw [d1, offW_out (by omega) _ hvn]; exact k2.1⟩ (by omega)
      rw [d1] at i1 i2
      have x3 := x2.cf (by omega) f3
      obtain ⟨c4, ef, j1, j2⟩ := C_havs (x1 := nI n) (S := S) x3 h2.2 hg h5.1 (by omega)
      have hT3 : TV q3 v := hT2.tx i3 ⟨rfl, rfl⟩ ⟨rfl, rfl, rfl, rfl, rfl, rfl⟩
      obtain ⟨q4, eg, l1, l2, l3⟩ := T_havs (x1 := nI n) (S := S) hT3 hb (by omega)
      have txd : TX fY aY q' q2 := d3.mono (fun k _ => rfl) (fun k hk => by unfold aY aZ at hk; unfold in72; simp at hk ⊢; omega)
      have txl : TX fY aY q3 q4 := l3.mono (fun k _ => rfl) (fun k hk => by unfold aY aZ at hk; unfold in75; simp at hk ⊢; omega)
      have tk4 : TK τ q4 (seasN v (offW (tA τ 62) S (vN v)) n) := ⟨((tk.1.trans txd).trans i3.sy).trans txl, fun i hi => by rw [l3.2.2.1 63 i rfl, i3.2.2.1 63 i rfl, d3.2.2.1 63 i rfl]; exact tk.2.1 i hi, by rw [show tA q4 62 = tA q3 62 from funext (fun i => l3.2.2.1 62 i rfl)]; exact i1, by rw [l3.1 70 rfl rfl, i3.1 70 rfl rfl, d3.1 70 rfl rfl]; exact tk.2.2.2⟩
      obtain ⟨q5, eh, m1, -, -, -, m5⟩ := T_again tk4 (fun j hj => by rw [seasN_hi hb hwr hj, offW_out (by omega) _ hvn])
      show OK2 (Bc_X0_rest_15 g X (nI n) (nI S) c') (Bt_laysHavings_6 (nI n) (nI S) q') _
      unfold Bc_X0_rest_15 Bt_laysHavings_6
      have h9 : ¬ nI (2 ^ vN v) ≤ nI S := by rw [nI_leI (by omega) (by omega)]; omega
      rw [if_pos h1.1, C_lords hI.1.1 hI.1.2.1 hI.1.b, xbd_some, shl_nI hvn, if_neg h9, h2.1, h2.2, Option.bind_some, Option.bind_some, if_pos h5.1.1, ea, xbd_some, eb, Option.bind_some, ed, xbd_some, ef, Option.bind_some, T_lordMany hT', xbd_some, shl_nI hvn, if_neg h9, ec, Option.bind_some, ee, Option.bind_some, eg, Option.bind_some, eh, Option.bind_some, nl_1, nI_add]
      obtain ⟨K3, π3, f4⟩ := f4
      have ks : KS (X + 103) c3 c4 := ⟨(j2 (X + 103) (by omega)).1 602, fun a b1 b2 => j2 a (by omega)⟩
      have cz4 : CZ X c c4 := (((hz.1.trans a3.cz).trans b2.cz).trans f3.cz).trans (fun a ha => j2 a (by omega))
      refine OK2_some (Or.inl ⟨_, _, rfl, rfl, c4, q5, rfl, rfl, ⟨cz4, K3, π3, f4.of ks⟩, m1, fun S' l hS' hl => ?_⟩)
      rw [m5.2.2.1 75 _ rfl]
      by_cases e : S' = S
      · subst e
        rw [j1 l hl, l1 l hl, g5 l hl, i2]
      · rw [(j2 (X + 173 + S') (by omega)).2.2.2.1, (f3 (X + 173 + S') (by omega) (by omega)).2.2.2.1, (b2 (X + 173 + S') (by omega) (by omega)).2.2.2.1, (a3 (X + 173 + S') (by omega) (by omega)).2.2.2.1, l2 _ (by omega), i3.2.2.1 75 _ rfl, d3.2.2.1 75 _ rfl]
        exact hA S' l (by omega) hl
    · rintro s t ⟨c', q', rfl, rfl, hz, tk, hA⟩
      have hx := h1.cz hz.1
      have hT' := h6.y tk.1
      show OK2 (Bc_X0_rest_15 g X (nI n) (nI (2 ^ vN v)) c') (Bt_laysHavings_6 (nI n) (nI (2 ^ vN v)) q') _
      unfold Bc_X0_rest_15 Bt_laysHavings_6
      have h9 : nI (2 ^ vN v) ≤ nI (2 ^ vN v) := by rw [nI_leI (by omega) (by omega)]; omega
      rw [if_pos h1.1, C_lords hx.1 hx.2.1 hx.b, xbd_some, shl_nI hvn, if_pos h9, T_lordMany hT', xbd_some, shl_nI hvn, if_pos h9]
      exact OK2_some ⟨_, _, rfl, rfl, hz, tk, hA⟩
  obtain ⟨c', q', ea, eb, hz, tk, hA⟩ := hL
  obtain ⟨q3, ec, r1, r2⟩ := T_back3 tk (fun _ _ => rfl) h7
  rw [ea, eb, Option.bind_some, ec, Option.bind_some]
  exact OK2_some ⟨hz, r1, fun S l hS hl => by rw [r2 75 _ (by omega)]; exact hA S l hS hl⟩
theorem I_isRest {S : Nat} (hx : CX g c X V v lo hi) (hT : TV q v) (hg : HG g X) (hA : ∀ S l, S < 2 ^ vN v → l < vN v → cA c (X + 173 + S) l = tA q 75 (5 * S + l)) (hS : S < 2 ^ vN v) : ∃ b : Bool, f_c_X0_isRest g X (nI S) c = some (b32 b, c) ∧ f_t_isRest (nI S) q = some (b32 b, q) := by
  have hb := hx.2.2.2.2.2.1
  have hvn := hb.2.2.2.1
  have hpw := pow_b hvn
  obtain ⟨g1, g2, g3, g4⟩ := hg
  unfold f_c_X0_isRest f_t_isRest
  have hL : OK2 (itr (fun s_ : Int32 × CC => Bc_X0_isRest_2 g X (nI S) s_.1 s_.2) 4096 (0, c)) (itr (fun s_ : Int32 × TS => Bt_isRest_2 (nI S) s_.1 s_.2) 4096 (0, q)) (fun r r' => (r = .inl c ∧ r' = .inl q) ∨ (r = .inr (0, c) ∧ r' = .inr (0, q))) := by
    refine itr_two (fun l s t => s = (nI l, c) ∧ t = (nI l, q)) _ 0 (vN v) ?_ ?_ (by omega) (by omega) ⟨rfl, rfl⟩
    · rintro l s t - hl ⟨rfl, rfl⟩
      show OK2 (Bc_X0_isRest_2 g X (nI S) (nI l) c) (Bt_isRest_2 (nI S) (nI l) q) _
      unfold Bc_X0_isRest_2 Bt_isRest_2
      have h9 : ¬ nI (vN v) ≤ nI l := by rw [nI_leI (by omega) (by omega)]; omega
      have hxr : S ^^^ 2 ^ l < 2 ^ vN v := Nat.xor_lt_two_pow hS (Nat.pow_lt_pow_right (by omega) hl)
      rw [xor_nI S (by omega) l (by omega)]
      have hA1 := hA (S ^^^ 2 ^ l) l hxr hl
      have hA2 := hA S l hS hl
      generalize S ^^^ 2 ^ l = S' at *
      have hS32 : S < 32 := by omega
      have hS32' : S' < 32 := by omega
      have hl5 : l < 5 := by omega
      simp only [hx.1, C_lords hx.1 hx.2.1 hx.b, T_lordMany hT, xbd_some, h9, reduceIte, g1, g2, g3, Option.bind_some, xin_nI hS32 (show 32 < 2147483648 by omega), xin_nI hS32' (show 32 < 2147483648 by omega), nI_clamp (show S < 2 ^ 31 by omega), nI_clamp (show S' < 2 ^ 31 by omega), nI_clamp (show l < 2 ^ 31 by omega), (g4 S hS32).1, (g4 S hS32).2.1, (g4 S hS32).2.2, (g4 S' hS32').1, (g4 S' hS32').2.1, (g4 S' hS32').2.2, xin_nI hl5 (show 5 < 2147483648 by omega), hA1, hA2, nl_5, nl_1, pk_mul, nI_add, xin_nI (show 5 * S' + l < 160 by omega) (show 160 < 2147483648 by omega), xin_nI (show 5 * S + l < 160 by omega) (show 160 < 2147483648 by omega), nI_clamp (show 5 * S' + l < 2 ^ 31 by omega), nI_clamp (show 5 * S + l < 2 ^ 31 by omega)]
      by_cases e : tA q 75 (5 * S' + l) ≤ tA q 75 (5 * S + l)
      · simp only [e, reduceIte]
        exact OK2_some (Or.inl ⟨_, _, rfl, rfl, rfl, rfl⟩)
      · simp only [e, reduceIte]
        exact OK2_some (Or.inr ⟨_, _, rfl, rfl, Or.inr ⟨rfl, rfl⟩⟩)
    · rintro s t ⟨rfl, rfl⟩
      show OK2 (Bc_X0_isRest_2 g X (nI S) (nI (vN v)) c) (Bt_isRest_2 (nI S) (nI (vN v)) q) _
      unfold Bc_X0_isRest_2 Bt_isRest_2
      have h9 : nI (vN v) ≤ nI (vN v) := by rw [nI_leI (by omega) (by omega)]; omega
      rw [if_pos hx.1, C_lords hx.1 hx.2.1 hx.b, xbd_some, if_pos h9, T_lordMany hT, xbd_some, if_pos h9]
      exact OK2_some ⟨_, _, rfl, rfl, Or.inl ⟨rfl, rfl⟩⟩
  obtain ⟨r, r', e1, e2, hq⟩ := hL
  rw [e1, e2, Option.bind_some, Option.bind_some]
  rcases hq with ⟨rfl, rfl⟩ | ⟨rfl, rfl⟩
  · exact ⟨true, rfl, rfl⟩
  · exact ⟨false, rfl, rfl⟩
theorem I_rest {x : Int32} (h : IV g c τ X V v lo hi) (hg : HG g X) : OK2 (f_c_X0_rest g X x c) (f_t_rest x τ) (RZ X c τ) := by
  have hA := C_isAhead (x := x) (a := nI 1) (b := nI 30) h
  have hB := T_isAhead (x := x) (a := nI 1) (b := nI 30) h.2.2.2.2.2.1
  obtain ⟨h1, h2, h3, h4, h5, h6, h7, n0, hn0, hw⟩ := id h
  have hb := h1.2.2.2.2.2.1
  have hvn := hb.2.2.2.1
  have hpw := pow_b hvn
  unfold f_c_X0_rest f_t_rest
  rw [if_pos h1.1, nl_1, nl_30, hA, hB, xbd_some, xbd_some]
  cases ha : aheadS v (tA τ 62) x (nI 1) (nI 30) with
  | false =>
    rw [if_pos (show b32 false = 0 by decide), if_pos (show b32 false = 0 by decide)]
    exact OK2_some (RD.mk.z h5.2)
  | true =>
    rw [if_neg (show ¬ b32 true = 0 by decide), if_neg (show ¬ b32 true = 0 by decide)]
    obtain ⟨n, hn1, hn2, rfl, hn3⟩ := ahead_1 (by omega) hw hn0 ha
    refine OK2_bind (I_havings h hg hw (by omega)) (fun c1 q1 p => ?_)
    obtain ⟨hz, htx, hA⟩ := p
    have hx := h1.cz hz.1
    have hT := h6.z htx
    refine OK2_bind (P := fun o r => o.1 = r.1 ∧ o.2 = c1 ∧ r.2 = q1) ?_ (fun o r p => OK2_some ⟨p.1, by rw [p.2.1]; exact hz.1, by rw [p.2.2]; exact htx, by rw [p.2.1]; exact hz.2⟩)
    refine itr_two (fun S s t => ∃ b, (b = -1 ∨ ∃ B, B < 2 ^ vN v ∧ b = nI B) ∧ s = (b, nI S, c1) ∧ t = (b, nI S, q1)) _ 0 (2 ^ vN v) ?_ ?_ (by omega) (by omega) ⟨-1, Or.inl rfl, rfl, rfl⟩
    · rintro S s t - hS ⟨b, hbest, rfl, rfl⟩
      obtain ⟨br, e1, e2⟩ := I_isRest hx hT hg hA hS
      have h9 : ¬ nI (2 ^ vN v) ≤ nI S := by rw [nI_leI (by omega) (by omega)]; omega
      show OK2 (Bc_X0_rest_119 g X b (nI S) c1) (Bt_rest_22 b (nI S) q1) _
      have e145 : Jc_X0_rest_145 g X b (nI S) c1 = some (.inl (if br = true then nI S else b, nI (S + 1), c1)) := by
        unfold Jc_X0_rest_145 Jc_X0_rest_155
        rw [if_pos hx.1, e1, xbd_some, nl_1, nI_add]
        cases br <;> rfl
      have e48 : Jt_rest_48 b (nI S) q1 = some (.inl (if br = true then nI S else b, nI (S + 1), q1)) := by
        unfold Jt_rest_48 Jt_rest_58
        rw [e2, xbd_some, nl_1, nI_add]
        cases br <;> rfl
      have hnew : (if br = true then nI S else b) = -1 ∨ ∃ B, B < 2 ^ vN v ∧ (if br = true then nI S else b) = nI B := by
        cases br
        · exact hbest
        · exact Or.inr ⟨S, hS, rfl⟩
      unfold Bc_X0_rest_119 Bt_rest_22
      rw [if_pos hx.1, C_lords hx.1 hx.2.1 hx.b, xbd_some, shl_nI hvn, if_neg h9, T_lordMany hT, xbd_some, shl_nI hvn, if_neg h9]
      by_cases hb1 : b = -1
      · rw [if_pos hb1, if_pos hb1, e145, e48]
        exact OK2_some (Or.inl ⟨_, _, rfl, rfl, _, hnew, rfl, rfl⟩)
      · rw [if_neg hb1, if_neg hb1]
        obtain ⟨B, hB1, rfl⟩ : ∃ B, B < 2 ^ vN v ∧ b = nI B := by
          rcases hbest with e | e
          · exact absurd e hb1
          · exact e
        rw [pop_c S (by omega), xbd_some, pop_c B (by omega), xbd_some, pop_t S (by omega), xbd_some, pop_t B (by omega), xbd_some, e145, e48]
        by_cases hle : nI (popN B) ≤ nI (popN S)
        · rw [if_pos hle, if_pos hle]
          unfold Jc_X0_rest_155 Jt_rest_58
          rw [nl_1, nI_add]
          exact OK2_some (Or.inl ⟨_, _, rfl, rfl, nI B, Or.inr ⟨B, hB1, rfl⟩, rfl, rfl⟩)
        · rw [if_neg hle, if_neg hle]
          exact OK2_some (Or.inl ⟨_, _, rfl, rfl, _, hnew, rfl, rfl⟩)
    · rintro s t ⟨b, hbest, rfl, rfl⟩
      have h9 : nI (2 ^ vN v) ≤ nI (2 ^ vN v) := by rw [nI_leI (by omega) (by omega)]; omega
      show OK2 (Bc_X0_rest_119 g X b (nI (2 ^ vN v)) c1) (Bt_rest_22 b (nI (2 ^ vN v)) q1) _
      unfold Bc_X0_rest_119 Bt_rest_22
      rw [if_pos hx.1, C_lords hx.1 hx.2.1 hx.b, xbd_some, shl_nI hvn, if_pos h9, T_lordMany hT, xbd_some, shl_nI hvn, if_pos h9]
      exact OK2_some ⟨_, _, rfl, rfl, rfl, rfl, rfl⟩
end TUs
