/-! PLAIN LAW: the component reads what stands in brackets -/
set_option maxRecDepth 100000
/-- what a reader of values leaves, by a relation -/
def WPost (P : Res → Prop) (kx X n : Nat) (B : Nat → Nat) (h o a R1 R2 : Nat) (τ : CS) (r : (Nat ⊕ Nat) × CS) : Prop := PF X τ r.2 ∧
  ((∃ k q, r.1 = .inr (X + 29) ∧ FLT r.2.2 X k q ∧ P (.inl (k, q)) ∧ CST R1 R2 τ r.2 (n + 2 - a)) ∨
   (∃ e cs a', r.1 = .inl e ∧ P (.inr (cs, a')) ∧ PI r.2 X n B a' o ∧ VAL kx X h (gz τ.1) (gz r.2.1) r.2.1 r.2.2 e cs ∧ a < a' ∧ CST R1 R2 τ r.2 (a' - a)))
section ZZG1
variable {kx X n h o a : Nat} {B : Nat → Nat} {τ : CS} {su ra : Nat → CS → Option ((Nat ⊕ Nat) × CS)}
theorem PI.le (hP : PI τ X n B a o) : a ≤ n ∧ n ≤ 1600 ∧ X + 1671 ≤ gz τ.1 ∧ o ≤ 6 := ⟨hP.1.2.2.1.2.2.2.2, hP.1.2.2.1.2.1, hP.1.2.1, hP.1.2.2.2.2.2⟩
/-- a sum is read, the bracket is closed -/
theorem C_77 {a0 e : Nat} {cs : List Nat} {P : Res → Prop} {τ0 : CS} (hP : PI τ X n B a (o + 1)) (p0 : PF X τ0 τ) (hv : VAL kx X h (gz τ0.1) (gz τ.1) τ.1 τ.2 e cs) (ha : a0 < a) (hc1 : grc τ0.1 ≤ grc τ.1 + 40 * (a - a0) - 20) (hc2 : grs τ0.1 ≤ grs τ.1 + 400 * (a - a0) - 200) (hX : X + 1671 ≤ gz τ0.1)
    (hok : cur B n (sk B n a) = 41 → P (.inr (cs, sk B n a + 1))) (hno : cur B n (sk B n a) ≠ 41 → P (.inl (1, sk B n a))) : OK (Jc_X2_within_77 su (X + 28) e τ) (WPost P kx X n B h o a0 20 200 τ0) := by
  obtain ⟨ha1, hn, hgz, ho⟩ := hP.le
  have g := sk_g (B := B) ha1
  unfold Jc_X2_within_77
  rw [if_pos hP.1.1.2.2.1]
  obtain ⟨⟨rr, τ1⟩, e1, p1, g1, y1, n1⟩ := C_mustP (x := 41) hP (by omega)
  rw [show (41 : Int32) = nI 41 from rfl, e1]
  dsimp only at p1 g1 y1 n1
  by_cases hc : cur B n (sk B n a) = 41
  · obtain ⟨y2, y3⟩ := y1 hc
    subst y2
    obtain ⟨d1, d2⟩ := C_dec y3
    show OK (if gT τ1.1 (X + 28) = 3 then _ else none) _
    rw [if_pos y3.1.1.2.2.1]
    have pf : PF X τ0 (τ1.1, uI τ1.2 304 (X + 28) (cI τ1.2 304 (X + 28) - 1)) := (p0.trans p1).trans d2
    refine OK_some ⟨pf, Or.inr ⟨e, cs, sk B n a + 1, rfl, hok hc, d1, ?_, by omega, ?_, ?_⟩⟩
    · have := hv.pf (p1.trans d2) (by omega) (Nat.le_refl _)
      exact this.up (Nat.le_refl _) (Nat.le_refl _) (p1.trans d2).1
    · show grc τ0.1 + 20 ≤ grc τ1.1 + _
      rw [g1]
      have := d1.le.1
      omega
    · show grs τ0.1 + 200 ≤ grs τ1.1 + _
      rw [g1]
      have := d1.le.1
      omega
  · obtain ⟨n2, n3⟩ := n1 hc
    subst n2
    refine OK_some ⟨p0.trans p1, Or.inl ⟨1, sk B n a, rfl, n3, hno hc, ?_, ?_⟩⟩
    · show grc τ0.1 + 20 ≤ grc τ1.1 + _
      rw [g1]; omega
    · show grs τ0.1 + 200 ≤ grs τ1.1 + _
      rw [g1]; omega
/-- a bracket is opened, a sum is read -/
theorem C_opened {x1 : Int32} {P : Res → Prop} (hsu : SubV kx X n B h 0 (o + 1) 0 0 su) (hP : PI τ X n B a o) (hcx : cI τ.2 305 (X + 28) = nI (ctx kx)) (hm : RM 20 200 n a τ) (hc : cur B n (sk B n a) = 40)
    (h6 : o = 6 → P (.inl (4, sk B n a))) (hbad : ∀ f, o < 6 → Parse B n kx 0 (o + 1) (sk B n a + 1) [] (.inl f) → P (.inl f)) {h' : Nat} (K : Nat → CS → Option ((Nat ⊕ Nat) × CS))
    (hb : f_x_X2_within su (X + 28) x1 τ = xbx (f_x_X2_opens (X + 28) (nI (sk B n a)) (τ.1, uI τ.2 302 (X + 28) (nI (sk B n a)))) (fun r3 τ3 => if gT τ3.1 (X + 28) = 3 then xbx (su (X + 28) (τ3.1, uI τ3.2 302 (X + 28) ((cI τ3.2 302 (X + 28)) + 1))) (fun r5 τ5 => K r5 τ5) (fun q18 τ18 => some ((.inr q18, τ18))) else none) (fun q19 τ19 => some ((.inr q19, τ19))))
    (hK : ∀ e cs p1 τ5, o < 6 → Parse B n kx 0 (o + 1) (sk B n a + 1) [] (.inr (cs, p1)) → PI τ5 X n B p1 (o + 1) → PF X τ τ5 → VAL kx X h (gz τ.1) (gz τ5.1) τ5.1 τ5.2 e cs → sk B n a + 1 < p1 → cI τ5.2 305 (X + 28) = nI (ctx kx) → grc τ.1 ≤ grc τ5.1 + 40 * (p1 - (sk B n a + 1)) → grs τ.1 ≤ grs τ5.1 + 400 * (p1 - (sk B n a + 1)) → OK (K e τ5) (WPost P kx X n B h' o a 20 200 τ)) :
    OK (f_x_X2_within su (X + 28) x1 τ) (WPost P kx X n B h' o a 20 200 τ) := by
  obtain ⟨ha1, hn, hgz, ho⟩ := hP.le
  have g := sk_g (B := B) ha1
  obtain ⟨hm1, hm2⟩ := hm
  have clt := cur_lt hc (by omega)
  have piS : PI (τ.1, uI τ.2 302 (X + 28) (nI (sk B n a))) X n B (sk B n a) o := hP.pf PF.at2 (hP.1.at2 g.2.1)
  rw [hb]
  obtain ⟨⟨rr, τ3⟩, e3, p3, g3, y3, n3⟩ := C_opens (p := sk B n a) piS
  rw [e3]
  dsimp only at p3 g3 y3 n3
  have p03 : PF X τ τ3 := PF.at2.trans p3
  by_cases e6 : o = 6
  · obtain ⟨y4, y5⟩ := y3 e6
    subst y4
    refine OK_some ⟨p03, Or.inl ⟨4, sk B n a, rfl, y5, h6 e6, ?_, ?_⟩⟩
    · show grc τ.1 + 20 ≤ grc τ3.1 + _
      rw [g3]; show grc τ.1 + 20 ≤ grc τ.1 + _; omega
    · show grs τ.1 + 200 ≤ grs τ3.1 + _
      rw [g3]; show grs τ.1 + 200 ≤ grs τ.1 + _; omega
  · obtain ⟨n4, n5, -⟩ := n3 e6
    subst n4
    have i302 : cI τ3.2 302 (X + 28) = nI (sk B n a) := n5.1.2.2.1.2.2.2.1
    have pi4 : PI (τ3.1, uI τ3.2 302 (X + 28) (nI (sk B n a + 1))) X n B (sk B n a + 1) (o + 1) := n5.pf PF.at2 (n5.1.at2 (by omega))
    have p04 : PF X τ (τ3.1, uI τ3.2 302 (X + 28) (nI (sk B n a + 1))) := p03.trans PF.at2
    have c4 : cI (uI τ3.2 302 (X + 28) (nI (sk B n a + 1))) 305 (X + 28) = nI (ctx kx) := by
      have := p04.2.2.2.1 305 (by omega) (by omega) (by omega)
      rw [show cI (uI τ3.2 302 (X + 28) (nI (sk B n a + 1))) 305 (X + 28) = cI τ.2 305 (X + 28) from this]; exact hcx
    show OK (if gT τ3.1 (X + 28) = 3 then _ else none) _
    rw [if_pos n5.1.1.2.2.1, i302, nl_1, nI_add]
    have gz4 : grc τ3.1 = grc τ.1 ∧ grs τ3.1 = grs τ.1 ∧ gz τ3.1 = gz τ.1 := by rw [g3]; exact ⟨rfl, rfl, rfl⟩
    obtain ⟨⟨r5, τ5⟩, e5, p5, hh⟩ := hsu _ (sk B n a + 1) ⟨pi4, c4, by show _ ≤ grc τ3.1 + 0; omega, by show _ ≤ grs τ3.1 + 0; omega⟩
    rw [e5]
    dsimp only at p5 hh
    rcases hh with ⟨kf, q, u1, u2, u3, u4, u5⟩ | ⟨ev, cs, a1, u1, u2, u3, u4, u5, u6, u7⟩
    · subst u1
      refine OK_some ⟨p04.trans p5, Or.inl ⟨kf, q, rfl, u2, hbad _ (by omega) u3, ?_, ?_⟩⟩
      · show grc τ.1 + 20 ≤ grc τ5.1 + _
        have u4 : grc τ3.1 + 0 ≤ grc τ5.1 + _ := u4
        omega
      · show grs τ.1 + 200 ≤ grs τ5.1 + _
        have u5 : grs τ3.1 + 0 ≤ grs τ5.1 + _ := u5
        omega
    · subst u1
      have u4 : VAL kx X h (gz τ3.1) (gz τ5.1) τ5.1 τ5.2 ev cs := u4
      rw [gz4.2.2] at u4
      have u6 : grc τ3.1 + 0 ≤ grc τ5.1 + 40 * (a1 - (sk B n a + 1)) := u6
      have u7 : grs τ3.1 + 0 ≤ grs τ5.1 + 400 * (a1 - (sk B n a + 1)) := u7
      exact hK ev cs a1 τ5 (by omega) u2 u3 (p04.trans p5) u4 u5 (by rw [p5.2.2.2.1 305 (by omega) (by omega) (by omega)]; exact c4) (by omega) (by omega)
/-- one in brackets -/
theorem C_within0 (hsu : SubV kx X n B h 0 (o + 1) 0 0 su) (hP : PI τ X n B a o) (hcx : cI τ.2 305 (X + 28) = nI (ctx kx)) (hm : RM 20 200 n a τ) (hc : cur B n (sk B n a) = 40) :
    OK (f_x_X2_within su (X + 28) 0 τ) (WPost (fun r => opn o (sk B n a) r (gon (Parse B n kx) 0 (o + 1) (sk B n a + 1) r (fun cs p1 => mus B n 41 p1 r (fun p2 => r = .inr (cs, p2))))) kx X n B h o a 20 200 τ) := by
  obtain ⟨ha1, hn, hgz, ho⟩ := hP.le
  have g := sk_g (B := B) ha1
  have piS : PI (τ.1, uI τ.2 302 (X + 28) (nI (sk B n a))) X n B (sk B n a) o := hP.pf PF.at2 (hP.1.at2 g.2.1)
  refine C_opened (K := fun r5 τ5 => Jc_X2_within_77 su (X + 28) r5 τ5) hsu hP hcx hm hc (fun e => Or.inl ⟨e, rfl⟩) (fun f h6 z => Or.inr ⟨h6, Or.inl ⟨f, z, rfl⟩⟩) ?_ (fun e cs p1 τ5 h6 z q1 q2 q3 q4 q5 q6 q7 => ?_)
  · unfold f_x_X2_within
    rw [if_pos hP.1.1.2.2.1, C_here hP.1.1 hP.1.2.2.1, xbd_some, hc, if_pos (by decide), piS.1.2.2.1.2.2.2.1]
    rfl
  · have hp1 := q1.le.1
    exact C_77 q1 q2 q3 (by omega) (by omega) (by omega) hgz (fun hcc => Or.inr ⟨h6, Or.inr ⟨cs, p1, z, Or.inl ⟨hcc, rfl⟩⟩⟩) (fun hcc => Or.inr ⟨h6, Or.inr ⟨cs, p1, z, Or.inr ⟨hcc, rfl⟩⟩⟩)
/-- two in brackets -/
theorem C_within2 {t : Nat} (ht : t < 2) (hsu : SubV kx X n B h 0 (o + 1) 0 0 su) (hP : PI τ X n B a o) (hcx : cI τ.2 305 (X + 28) = nI (ctx kx)) (hm : RM 20 200 n a τ) :
    OK (f_x_X2_within su (X + 28) (nI (t + 1)) τ) (WPost (fun r => (cur B n (sk B n a) ≠ 40 ∧ r = .inl (1, sk B n a)) ∨ (cur B n (sk B n a) = 40 ∧ opn o (sk B n a) r (gon (Parse B n kx) 0 (o + 1) (sk B n a + 1) r (fun cs p1 => mus B n 44 p1 r (fun p2 => gon (Parse B n kx) 0 (o + 1) p2 r (fun cs2 p3 => mus B n 41 p3 r (fun p4 => r = .inr (cs ++ cs2 ++ [5 + t], p4)))))))) kx X n B (h + 1) o a 20 200 τ) := by
  obtain ⟨ha1, hn, hgz, ho⟩ := hP.le
  have g := sk_g (B := B) ha1
  have piS : PI (τ.1, uI τ.2 302 (X + 28) (nI (sk B n a))) X n B (sk B n a) o := hP.pf PF.at2 (hP.1.at2 g.2.1)
  have hcu := hP.1.2.2.1.cur_le (p := sk B n a)
  by_cases hc : cur B n (sk B n a) = 40
  · refine C_opened (K := fun r5 τ5 => if nI (t + 1) ≤ 0 then Jc_X2_within_77 su (X + 28) r5 τ5 else if gT τ5.1 (X + 28) = 3 then xbx (f_x_X2_must (X + 28) 44 τ5) (fun r11 τ11 => xbd (aNew 9 τ11) fun r12 τ12 => if nI (t + 1) = 2 then Jc_X2_within_68 su (X + 28) r5 1 r12 r12 τ12 else Jc_X2_within_68 su (X + 28) r5 0 r12 r12 τ12) (fun q17 τ17 => some ((.inr q17, τ17))) else none) hsu hP hcx hm hc (fun e => Or.inr ⟨hc, Or.inl ⟨e, rfl⟩⟩) (fun f h6 z => Or.inr ⟨hc, Or.inr ⟨h6, Or.inl ⟨f, z, rfl⟩⟩⟩) ?_ (fun e cs p1 τ5 h6 z q1 q2 q3 q4 q5 q6 q7 => ?_)
    · unfold f_x_X2_within
      rw [if_pos hP.1.1.2.2.1, C_here hP.1.1 hP.1.2.2.1, xbd_some, hc, if_pos (by decide), piS.1.2.2.1.2.2.2.1]
    · obtain ⟨hp1, -, hgz5, -⟩ := q1.le
      have gp := sk_g (B := B) hp1
      rw [if_neg (by show ¬ nI (t + 1) ≤ nI 0; rw [nI_leI (by omega) (by omega)]; omega), if_pos q1.1.1.2.2.1]
      obtain ⟨⟨rr, τ6⟩, e6, p6, g6, y6, n6⟩ := C_mustP (x := 44) q1 (by omega)
      rw [show (44 : Int32) = nI 44 from rfl, e6]
      dsimp only at p6 g6 y6 n6
      have gg6 : grc τ6.1 = grc τ5.1 ∧ grs τ6.1 = grs τ5.1 ∧ gz τ6.1 = gz τ5.1 := by rw [g6]; exact ⟨rfl, rfl, rfl⟩
      obtain ⟨hm1, hm2⟩ := hm
      by_cases h44 : cur B n (sk B n p1) = 44
      · obtain ⟨y7, y8⟩ := y6 h44
        subst y7
        have hp2 := y8.le.1
        obtain ⟨τ7, e7, st7, z7, t7, c7, s7⟩ := C_new (t := 9) (τ := τ6) (by omega) (by show 3 ≤ _; omega)
        have s7 : grs τ7.1 = grs τ6.1 - 3 := s7
        generalize hzp : gz τ6.1 = zp at *
        have hj : OK (Jc_X2_within_68 su (X + 28) e (nI t) zp zp τ7) (WPost (fun r => (cur B n (sk B n a) ≠ 40 ∧ r = .inl (1, sk B n a)) ∨ (cur B n (sk B n a) = 40 ∧ opn o (sk B n a) r (gon (Parse B n kx) 0 (o + 1) (sk B n a + 1) r (fun cs p1 => mus B n 44 p1 r (fun p2 => gon (Parse B n kx) 0 (o + 1) p2 r (fun cs2 p3 => mus B n 41 p3 r (fun p4 => r = .inr (cs ++ cs2 ++ [5 + t], p4)))))))) kx X n B (h + 1) o a 20 200 τ) := by
          have mk : ∀ r, gon (Parse B n kx) 0 (o + 1) (sk B n p1 + 1) r (fun cs2 p3 => mus B n 41 p3 r (fun p4 => r = .inr (cs ++ cs2 ++ [5 + t], p4))) → ((cur B n (sk B n a) ≠ 40 ∧ r = .inl (1, sk B n a)) ∨ (cur B n (sk B n a) = 40 ∧ opn o (sk B n a) r (gon (Parse B n kx) 0 (o + 1) (sk B n a + 1) r (fun cs p1 => mus B n 44 p1 r (fun p2 => gon (Parse B n kx) 0 (o + 1) p2 r (fun cs2 p3 => mus B n 41 p3 r (fun p4 => r = .inr (cs ++ cs2 ++ [5 + t], p4)))))))) := fun r hr => Or.inr ⟨hc, Or.inr ⟨h6, Or.inr ⟨cs, p1, z, Or.inl ⟨h44, hr⟩⟩⟩⟩
          have pi7 : PI τ7 X n B (sk B n p1 + 1) (o + 1) := y8.st st7 (by omega)
          have pf7 : PF X τ τ7 := (q2.trans p6).st st7 (by have := q2.1; omega) (by omega)
          have cx7 : cI τ7.2 305 (X + 28) = nI (ctx kx) := by rw [(st7.2.2 (X + 28) (by omega)).1, p6.2.2.2.1 305 (by omega) (by omega) (by omega)]; exact q5
          unfold Jc_X2_within_68
          rw [if_pos pi7.1.1.2.2.1]
          obtain ⟨⟨r8, τ8⟩, e8, p8, hh⟩ := hsu τ7 (sk B n p1 + 1) ⟨pi7, cx7, by omega, by omega⟩
          rw [e8]
          dsimp only at p8 hh
          rcases hh with ⟨kf, q, u1, u2, u3, u4, u5⟩ | ⟨ev, cs2, a1, u1, u2, u3, u4, u5, u6, u7⟩
          · subst u1
            exact OK_some ⟨pf7.trans p8, Or.inl ⟨kf, q, rfl, u2, mk _ (Or.inl ⟨_, u3, rfl⟩), by dsimp only at u4 ⊢; omega, by dsimp only at u5 ⊢; omega⟩⟩
          · subst u1
            have hgz8 := p8.1
            have t8 : gT τ8.1 zp = 9 := by rw [(p8.2.1 zp (by omega) (by omega)).1]; exact t7
            have hgz5a : gz τ.1 ≤ gz τ5.1 := q2.1
            -- the pair is told
            generalize hτ9 : ((vR (vR τ8.1 901 zp (some e)) 902 zp (some ev), uI τ8.2 900 zp (nI t)) : CS) = τ9
            have e9 : f_a_X10_init zp (nI t) e ev τ8 = some τ9 := by
              unfold f_a_X10_init f_a_X8_init
              rw [Option.bind_some, if_pos t8, if_pos (by rcases (show t = 0 ∨ t = 1 by omega) with rfl | rfl <;> decide), hτ9]
            have g9 : gz τ9.1 = gz τ8.1 ∧ grc τ9.1 = grc τ8.1 ∧ grs τ9.1 = grs τ8.1 := by rw [← hτ9]; exact ⟨rfl, rfl, rfl⟩
            have G9 : ∀ b, b ≠ zp → gT τ9.1 b = gT τ8.1 b ∧ gN τ9.1 b = gN τ8.1 b ∧ (∀ k, gR τ9.1 k b = gR τ8.1 k b) ∧ ∀ i, gA τ9.1 b i = gA τ8.1 b i := fun b hb => by
              rw [← hτ9]
              refine ⟨rfl, rfl, fun k => ?_, fun i => rfl⟩
              show gR (vR (vR τ8.1 901 zp (some e)) 902 zp (some ev)) k b = _
              rw [vR_R, if_neg (fun q => hb q.2), vR_R, if_neg (fun q => hb q.2)]
            have E9 : ∀ b, b ≠ zp → Eq1 τ8.2 τ9.2 b := fun b hb => by rw [← hτ9]; exact (Eq1.refl τ8.2 b).uI hb
            have st9 : STz zp τ8 τ9 := ⟨by omega, fun b _ hb => G9 b (by omega), fun b hb => E9 b (by omega)⟩
            show OK ((f_a_X10_init zp (nI t) e ev τ8).bind fun τ15 => Jc_X2_within_77 su (X + 28) zp τ15) _
            rw [e9, Option.bind_some]
            have v1 : VAL kx X h (gz τ.1) (gz τ5.1) τ9.1 τ9.2 e cs := (((q3.pf p6 (by omega) (Nat.le_refl _)).st st7 (by omega)).pf p8 (by omega) (by omega)).of (fun b b1 b2 => G9 b (by omega)) (fun b b1 b2 => E9 b (by omega))
            have v2 : VAL kx X h (gz τ7.1) (gz τ8.1) τ9.1 τ9.2 ev cs2 := u4.of (fun b b1 b2 => G9 b (by omega)) (fun b b1 b2 => E9 b (by omega))
            have hv : VAL kx X (h + 1) (gz τ.1) (gz τ9.1) τ9.1 τ9.2 zp (cs ++ cs2 ++ [5 + t]) := VAL_pair (by rw [← hτ9]; exact t8) (by rw [← hτ9]; show gR (vR (vR τ8.1 901 zp (some e)) 902 zp (some ev)) 901 zp = _; rw [vR_R, if_neg (by omega), vR_R, if_pos ⟨rfl, rfl⟩]) (by rw [← hτ9]; show gR (vR (vR τ8.1 901 zp (some e)) 902 zp (some ev)) 902 zp = _; rw [vR_R, if_pos ⟨rfl, rfl⟩]) (by rw [← hτ9]; show cI (uI τ8.2 900 zp (nI t)) 900 zp = _; rw [cI_uI, if_pos ⟨rfl, rfl⟩]) ht v1 v2 (by omega) (by omega) (by omega)
            have ha1' := u3.le.1
            refine C_77 (u3.st st9 (by omega)) ((pf7.trans p8).st st9 (by omega) (by omega)) hv (by omega) (by omega) (by omega) hgz (fun hcc => mk _ (Or.inr ⟨cs2, a1, u2, Or.inl ⟨hcc, rfl⟩⟩)) (fun hcc => mk _ (Or.inr ⟨cs2, a1, u2, Or.inr ⟨hcc, rfl⟩⟩))
        show OK (xbd (aNew 9 τ6) fun r12 τ12 => if nI (t + 1) = 2 then Jc_X2_within_68 su (X + 28) e 1 r12 r12 τ12 else Jc_X2_within_68 su (X + 28) e 0 r12 r12 τ12) _
        rw [e7, xbd_some]
        rcases (show t = 0 ∨ t = 1 by omega) with rfl | rfl
        · rw [if_neg (by decide)]; exact hj
        · rw [if_pos (by decide)]; exact hj
      · obtain ⟨n7, n8⟩ := n6 h44
        subst n7
        exact OK_some ⟨q2.trans p6, Or.inl ⟨1, sk B n p1, rfl, n8, Or.inr ⟨hc, Or.inr ⟨h6, Or.inr ⟨cs, p1, z, Or.inr ⟨h44, rfl⟩⟩⟩⟩, by dsimp only; omega, by dsimp only; omega⟩⟩
  · unfold f_x_X2_within
    rw [if_pos hP.1.1.2.2.1, C_here hP.1.1 hP.1.2.2.1, xbd_some, if_neg (by show ¬ chI _ = nI 40; rw [ch_ne hcu (by omega)]; exact hc), piS.1.2.2.1.2.2.2.1, C_wrong hP.1.1, xbd_some, if_pos hP.1.1.2.2.2.2.1]
    refine OK_some ⟨((PR.refl (X := X)).u302.u29.u29).pf, Or.inl ⟨1, sk B n a, rfl, FLT.mk, Or.inl ⟨hc, rfl⟩, ?_, ?_⟩⟩
    · show grc τ.1 + 20 ≤ grc τ.1 + _
      omega
    · show grs τ.1 + 200 ≤ grs τ.1 + _
      omega
end ZZG1
