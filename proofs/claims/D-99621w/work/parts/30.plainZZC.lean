/-! PLAIN LAW: words of the component -/
set_option maxRecDepth 100000
theorem RDG.pf {X : Nat} {τ τ' : CS} (h : RDG τ.1 X) (hX : X + 30 ≤ gz τ.1) (p : PF X τ τ') : RDG τ'.1 X := by
  obtain ⟨h1, h2, h3, h4, h5, h6, h7, h8, h9⟩ := h
  have q := p.2.1
  exact ⟨by rw [(q X (by omega) (by omega)).1]; exact h1, by rw [(q X (by omega) (by omega)).2.2.1]; exact h2, by rw [(q (X + 28) (by omega) (by omega)).1]; exact h3, by rw [(q (X + 28) (by omega) (by omega)).2.2.1]; exact h4, by rw [(q (X + 29) (by omega) (by omega)).1]; exact h5, by rw [(q (X + 28) (by omega) (by omega)).2.2.1]; exact h6, by rw [(q X (by omega) (by omega)).2.2.1]; exact h7, by rw [(q (X + 27) (by omega) (by omega)).1]; exact h8, by rw [(q (X + 27) (by omega) (by omega)).2.1]; exact h9⟩
theorem CL8.pf {X : Nat} {τ τ' : CS} {B : Nat → Nat} (h : CL8 τ.2 X B) (hX : X + 30 ≤ gz τ.1) (p : PF X τ τ') : CL8 τ'.2 X B := fun i hi hb => by rw [(p.2.2.1 (X + 27) (by omega) (by omega) (by omega)).2.2.2.1]; exact h i hi hb
theorem CB8.pf {X : Nat} {τ τ' : CS} {B : Nat → Nat} (h : CB8 τ.2 X B) (hX : X + 30 ≤ gz τ.1) (p : PF X τ τ') : CB8 τ'.2 X B := h.of (p.2.2.1 (X + 27) (by omega) (by omega) (by omega))
/-- the parser's state in the component: bytes, room for the reader's cells, where it stands, how many are open -/
def PS (τ : CS) (X n : Nat) (B : Nat → Nat) (a o : Nat) : Prop := RDG τ.1 X ∧ X + 1671 ≤ gz τ.1 ∧ RdC τ.2 X n B a ∧ CL8 τ.2 X B ∧ cI τ.2 304 (X + 28) = nI o ∧ o ≤ 6
section ZZC
variable {X n a o : Nat} {B : Nat → Nat} {τ : CS}
theorem C_word (h : PS τ X n B a o) (hc : 3 ≤ grc τ.1) (hs : 2 * n + 4 ≤ grs τ.1) : OK (f_x_X2_word_2 (X + 28) τ) (fun r => PF X τ r.2 ∧ (okW B n (sk B n a) = true → r.1 = .inl (gz τ.1 + 1) ∧ PS r.2 X n B (we B n (sk B n a)) o ∧ Str r.2.1 r.2.2 (gz τ.1 + 1) (wd B n (sk B n a)) ∧ (gT r.2.1 (gz τ.1 + 1) = 19 ∧ gR r.2.1 1900 (gz τ.1 + 1) = some (gz τ.1 + 2) ∧ cI r.2.2 1902 (gz τ.1 + 1) = 0 ∧ cI r.2.2 1903 (gz τ.1 + 1) = 0) ∧ cI r.2.2 303 (X + 28) = nI (sk B n a) ∧ gz r.2.1 = gz τ.1 + 3 ∧ grc r.2.1 + 3 = grc τ.1 ∧ grs r.2.1 + (2 * (we B n (sk B n a) - sk B n a) + 4) = grs τ.1) ∧ (okW B n (sk B n a) = false → r.1 = .inr (X + 29) ∧ FLT r.2.2 X 1 (sk B n a) ∧ r.2.1 = τ.1)) := by
  obtain ⟨g, c⟩ := τ
  obtain ⟨hg, hX, hr, hL, h4, ho⟩ := h
  have hn := hr.2.1
  have ha := hr.2.2.2.2
  have hsk := (sk_g (B := B) ha).2.1
  have hr1 := hr.to hsk
  have hh := C_here hg hr
  dsimp only at hg hX hr hL h4 hc hs hr1 hh
  generalize sk B n a = p at *
  have hcu := hr.cur_le (p := p)
  have p1 : PR X c (uI c 302 (X + 28) (nI p)) := PR.refl.u302
  unfold f_x_X2_word_2
  dsimp only
  rw [if_pos hg.2.2.1, hh, xbd_some, C_isLetter hcu, xbd_some, hr1.2.2.2.1]
  cases hlt : ltB (cur B n p) with
  | false =>
    rw [if_pos (show b32 false = 0 by decide), C_wrong hg, xbd_some, if_pos hg.2.2.2.2.1]
    have hno : okW B n p = false := by unfold okW; rw [hlt]; rfl
    exact OK_some ⟨(p1.u29.u29).pf, (fun e => by rw [hno] at e; cases e), fun _ => ⟨rfl, FLT.mk, rfl⟩⟩
  | true =>
    rw [if_neg (show ¬ b32 true = 0 by decide), C_parted hg hr1]
    by_cases hal : alB B p = true
    · rw [if_pos hal]
      have hno : okW B n p = false := by unfold okW; rw [hal]; simp
      exact OK_some ⟨(p1.u29.u29).pf, (fun e => by rw [hno] at e; cases e), fun _ => ⟨rfl, FLT.mk, rfl⟩⟩
    · have hok : okW B n p = true := by unfold okW; rw [hlt, show alB B p = false by simpa using hal]; rfl
      rw [if_neg hal]
      obtain ⟨hpn, hlp⟩ := okW_l hok
      obtain ⟨g1, g2, g3, g4⟩ := we_g (B := B) (show p ≤ n by omega)
      have hgt : p < we B n p := by
        rw [we_b hpn hlp]
        exact (we_g (B := B) (n := n) (a := p + 1) (by omega)).1
      have hr3 : RdC (uI (uI c 302 (X + 28) (nI p)) 303 (X + 28) (nI p)) X n B p := hr1.u303
      show OK (if gT g (X + 28) = 3 then ((itr (fun s_ : CS => Bc_X2_word_2_32 (X + 28) s_) 4096 (g, uI (uI c 302 (X + 28) (nI p)) 303 (X + 28) (cI (uI c 302 (X + 28) (nI p)) 302 (X + 28)))).bind fun b11 => _) else none) _
      rw [if_pos hg.2.2.1, hr1.2.2.2.1, C_run hg (n - p) p _ (by omega) hr3 4096 (by omega), Option.bind_some]
      dsimp only
      -- the state behind the run
      have hr4 : RdC (uI (uI (uI c 302 (X + 28) (nI p)) 303 (X + 28) (nI p)) 302 (X + 28) (nI (we B n p))) X n B (we B n p) := hr3.to g2
      have p4 : PR X c (uI (uI (uI c 302 (X + 28) (nI p)) 303 (X + 28) (nI p)) 302 (X + 28) (nI (we B n p))) := (p1.u303).u302
      have e303 : cI (uI (uI (uI c 302 (X + 28) (nI p)) 303 (X + 28) (nI p)) 302 (X + 28) (nI (we B n p))) 303 (X + 28) = nI p := by rw [cI_uI, if_neg (by omega), cI_uI, if_pos ⟨rfl, rfl⟩]
      have e304 : cI (uI (uI (uI c 302 (X + 28) (nI p)) 303 (X + 28) (nI p)) 302 (X + 28) (nI (we B n p))) 304 (X + 28) = nI o := by rw [cI_uI, if_neg (by omega), cI_uI, if_neg (by omega), cI_uI, if_neg (by omega)]; exact h4
      have hL4 : CL8 (uI (uI (uI c 302 (X + 28) (nI p)) 303 (X + 28) (nI p)) 302 (X + 28) (nI (we B n p))) X B := fun i hi hb => by rw [(p4.1 (X + 27) (by omega) (by omega)).2.2.2.1]; exact hL i hi hb
      generalize uI (uI (uI c 302 (X + 28) (nI p)) 303 (X + 28) (nI p)) 302 (X + 28) (nI (we B n p)) = c4 at *
      rw [if_pos hg.2.2.1, hr4.2.2.2.1, e303, pk_sub g1, aArr_ok (τ := (g, c4)) (by show 1 ≤ grc g; omega) (by show _ ≤ grs g; omega) (by omega), xbd_some]
      dsimp only
      generalize hz : gz g = z at *
      have hgN : RDG (nG g 102 (we B n p - p) (we B n p - p)) X := by
        obtain ⟨q1, q2, q3, q4, q5, q6, q7, q8, q9⟩ := hg
        refine ⟨?_, ?_, ?_, ?_, ?_, ?_, ?_, ?_, ?_⟩ <;> (first | rw [nG_T, if_neg (by omega)] | rw [nG_R, if_neg (by omega)] | rw [nG_N, if_neg (by omega)]) <;> assumption
      have ee : ∀ b, b ≠ z → Eq1 c4 (zC c4 z) b := fun b hb => zC_e hb
      have hr5 : RdC (zC c4 z) X n B (we B n p) := ⟨hr4.1.of (ee _ (by omega)), hr4.2.1, by rw [(ee (X + 28) (by omega)).1]; exact hr4.2.2.1, by rw [(ee (X + 28) (by omega)).1]; exact hr4.2.2.2.1, g2⟩
      have e5 : cI (zC c4 z) 303 (X + 28) = nI p := by rw [(ee (X + 28) (by omega)).1]; exact e303
      obtain ⟨⟨g5, c5⟩, e6, k1, k2, k3⟩ := C_fill (c := zC c4 z) (z := z) (p := p) (e := we B n p) hgN (by omega) (by rw [nG_T, hz, if_pos rfl]) (by rw [nG_N, hz, if_pos rfl]) g1 g2 hr5 e5 (fun i hi hb => by rw [(ee (X + 27) (by omega)).2.2.2.1]; exact hL4 i hi hb) g4
      have k1 : g5 = nG g 102 (we B n p - p) (we B n p - p) := k1
      subst k1
      rw [if_pos hgN.2.2.1, e5, e6, Option.bind_some]
      generalize hLn : we B n p - p = L at *
      have hL0 : 0 < L := by omega
      have hL1 : L ≤ 1600 := by omega
      unfold f_a_J6_valueOf f_a_J6_init f_a_J6_init_2 f_a_J7_compress
      rw [aNew_ok (t := 19) (τ := (nG g 102 L L, c5)) (by rw [nG_c]; omega) (by rw [nG_s, show kN 19 = 4 from rfl]; omega), xbd_some, show kN 19 = 4 from rfl]
      dsimp only
      rw [nG_z, hz]
      have t6z : gT (nG (nG g 102 L L) 19 0 4) z = 102 := by rw [nG_T, nG_z, hz, if_neg (by omega), nG_T, hz, if_pos rfl]
      have n6z : gN (nG (nG g 102 L L) 19 0 4) z = L := by rw [nG_N, nG_z, hz, if_neg (by omega), nG_N, hz, if_pos rfl]
      rw [if_pos t6z, n6z, show Int32.ofNat L = nI L from rfl, if_neg (show ¬ nI L = 0 by show ¬ nI L = nI 0; rw [nI_eq (by omega) (by omega)]; omega)]
      rw [aArr_ok (t := 103) (n := L) (τ := (nG (nG g 102 L L) 19 0 4, zC c5 (z + 1))) (by rw [nG_c, nG_c]; omega) (by rw [nG_s, nG_s]; omega) (by omega), xbd_some]
      dsimp only
      rw [nG_z, nG_z, hz]
      have hz2 : gz (nG (nG g 102 L L) 19 0 4) = z + 2 := by rw [nG_z, nG_z, hz]
      have t7z : gT (nG (nG (nG g 102 L L) 19 0 4) 103 L L) z = 102 := by rw [nG_T, hz2, if_neg (by omega)]; exact t6z
      have t7s : gT (nG (nG (nG g 102 L L) 19 0 4) 103 L L) (z + 1) = 19 := by rw [nG_T, hz2, if_neg (by omega), nG_T, nG_z, hz, if_pos rfl]
      have t7b : gT (nG (nG (nG g 102 L L) 19 0 4) 103 L L) (z + 2) = 103 := by rw [nG_T, hz2, if_pos rfl]
      have n7z : gN (nG (nG (nG g 102 L L) 19 0 4) 103 L L) z = L := by rw [nG_N, hz2, if_neg (by omega)]; exact n6z
      have n7b : gN (nG (nG (nG g 102 L L) 19 0 4) 103 L L) (z + 2) = L := by rw [nG_N, hz2, if_pos rfl]
      have hW : ∀ i, i < L → cA (zC (zC c5 (z + 1)) (z + 2)) z i = nI (B (p + i)) ∧ B (p + i) < 128 := fun i hi => by
        rw [zC_A, if_neg (by omega), zC_A, if_neg (by omega)]
        exact ⟨k2 i hi, by have := ltB_b (g4 (p + i) (by omega) (by omega)); omega⟩
      obtain ⟨⟨r8, c8⟩, e8, m1, m2, m3⟩ := C_compress (g := nG (nG (nG g 102 L L) 19 0 4) 103 L L) (c := zC (zC c5 (z + 1)) (z + 2)) (s := z) (d := z + 2) (W := fun i => B (p + i)) (by omega) t7z t7b n7z n7b hL1 hW
      have m1 : r8 = nI L := m1
      subst m1
      rw [show (0 : Int32) = nI 0 from rfl] at *
      rw [e8, xbd_some, if_pos rfl, xbd_some]
      unfold f_c_J7_coderFromArrayLen
      dsimp only
      have k7b : gK (nG (nG (nG g 102 L L) 19 0 4) 103 L L) (z + 2) = 103 := by unfold gK; show gT _ _ % 1000 = 103; rw [t7b]
      rw [if_pos k7b, n7b, show Int32.ofNat L = nI L from rfl, pk_sub (Nat.le_refl L), Nat.sub_self, show ((((nI 0 : Int32).toUInt32 >>> ((31 : Int32).toUInt32 &&& Int32.toUInt32 31)).toInt32).toInt8.toInt32).toInt8.toInt32 = nI 0 by decide, xbd_some, if_pos t7s, if_pos (show xfb (nI 0) = true by decide), Option.bind_some, Option.bind_some, xbd_some]
      -- all that stood
      have ez : ∀ b, b < z → Eq1 c4 (uI c8 1901 (z + 1) (nI 0)) b := fun b hb => ((((ee b (by omega)).trans (k3 b (by omega))).trans (zC_e (by omega))).trans (zC_e (by omega))).trans (((m3 b (by omega))).uI (by omega))
      have eg : AgG 0 z g (vR (nG (nG (nG g 102 L L) 19 0 4) 103 L L) 1900 (z + 1) (some (z + 2))) := fun b _ hb => by
        refine ⟨?_, ?_, fun k => ?_, fun i => rfl⟩
        · rw [vR_T, nG_T, hz2, if_neg (by omega), nG_T, nG_z, hz, if_neg (by omega), nG_T, hz, if_neg (by omega)]
        · rw [vR_N, nG_N, hz2, if_neg (by omega), nG_N, nG_z, hz, if_neg (by omega), nG_N, hz, if_neg (by omega)]
        · rw [vR_R, if_neg (by omega), nG_R, hz2, if_neg (by omega), nG_R, nG_z, hz, if_neg (by omega), nG_R, hz, if_neg (by omega)]
      have pf : PF X (g, c) (vR (nG (nG (nG g 102 L L) 19 0 4) 103 L L) 1900 (z + 1) (some (z + 2)), uI c8 1901 (z + 1) (nI 0)) := by
        refine ⟨?_, ?_, fun b b1 b2 b3 => ?_, fun k k1 k2 k3 => ?_, fun k => ?_⟩
        · show gz g ≤ gz (vR _ _ _ _)
          rw [vR_z, nG_z, hz2, hz]; omega
        · show AgG 0 (gz g) _ _
          rw [hz]; exact eg
        · have b1 : b < gz g := b1
          exact (p4.1 b b2 b3).trans (ez b (by omega))
        · show cI (uI c8 1901 (z + 1) (nI 0)) k (X + 28) = cI c k (X + 28)
          rw [(ez (X + 28) (by omega)).1 k]; exact p4.2.1 k k1 k2 k3
        · show cR (uI c8 1901 (z + 1) (nI 0)) k (X + 28) = cR c k (X + 28)
          rw [(ez (X + 28) (by omega)).2.2.1 k]; exact p4.2.2 k
      refine OK_some ⟨pf, fun _ => ⟨rfl, ⟨RDG.pf (τ := (g, c)) hg (by show X + 30 ≤ gz g; omega) pf, ?_, ⟨?_, hr4.2.1, ?_, ?_, g2⟩, ?_, ?_, ho⟩, ⟨?_, ?_, ?_, z + 2, ?_, ?_, ?_, fun i hi => ?_⟩, ?_, ?_, ?_, ?_, ?_⟩, fun e => by rw [hok] at e; cases e⟩
      · show X + 1671 ≤ gz (vR _ _ _ _)
        rw [vR_z, nG_z, hz2]; omega
      · exact hr4.1.of (ez (X + 27) (by omega))
      · show cI (uI c8 1901 (z + 1) (nI 0)) 301 (X + 28) = _
        rw [(ez (X + 28) (by omega)).1]; exact hr4.2.2.1
      · show cI (uI c8 1901 (z + 1) (nI 0)) 302 (X + 28) = _
        rw [(ez (X + 28) (by omega)).1]; exact hr4.2.2.2.1
      · intro i hi hb
        show cA (uI c8 1901 (z + 1) (nI 0)) (X + 27) i = _
        rw [(ez (X + 27) (by omega)).2.2.2.1]; exact hL4 i hi hb
      · show cI (uI c8 1901 (z + 1) (nI 0)) 304 (X + 28) = _
        rw [(ez (X + 28) (by omega)).1]; exact e304
      · show gT (vR _ _ _ _) (z + 1) % 1000 = 19
        rw [vR_T, t7s]
      · show cI (uI c8 1901 (z + 1) (nI 0)) 1901 (z + 1) = _
        rw [cI_uI, if_pos ⟨rfl, rfl⟩]
      · rw [wd_len]; omega
      · show gR (vR _ _ _ _) 1900 (z + 1) = _
        rw [vR_R, if_pos ⟨rfl, rfl⟩]
      · show gT (vR _ _ _ _) (z + 2) % 1000 = 103
        rw [vR_T, t7b]
      · show gN (vR _ _ _ _) (z + 2) = _
        rw [vR_N, n7b, wd_len, hLn]
      · rw [wd_len] at hi
        show cA (uI c8 1901 (z + 1) (nI 0)) (z + 2) i = _
        rw [cA_uI, m2 i (by omega), wd_get hi]
      · refine ⟨?_, ?_, ?_, ?_⟩
        · show gT (vR _ _ _ _) (z + 1) = 19
          rw [vR_T, t7s]
        · show gR (vR _ _ _ _) 1900 (z + 1) = some (z + 2)
          rw [vR_R, if_pos ⟨rfl, rfl⟩]
        · show cI (uI c8 1901 (z + 1) (nI 0)) 1902 (z + 1) = 0
          rw [cI_uI, if_neg (by omega), (m3 (z + 1) (by omega)).1, zC_I, if_neg (by omega), zC_I, if_pos rfl]
        · show cI (uI c8 1901 (z + 1) (nI 0)) 1903 (z + 1) = 0
          rw [cI_uI, if_neg (by omega), (m3 (z + 1) (by omega)).1, zC_I, if_neg (by omega), zC_I, if_pos rfl]
      · show cI (uI c8 1901 (z + 1) (nI 0)) 303 (X + 28) = _
        rw [(ez (X + 28) (by omega)).1]; exact e303
      · show gz (vR _ _ _ _) = z + 3
        rw [vR_z, nG_z, hz2]
      · show grc (vR _ _ _ _) + 3 = grc g
        rw [vR_c, nG_c, nG_c, nG_c]; omega
      · show grs (vR _ _ _ _) + (2 * L + 4) = grs g
        rw [vR_s, nG_s, nG_s, nG_s]; omega
end ZZC
