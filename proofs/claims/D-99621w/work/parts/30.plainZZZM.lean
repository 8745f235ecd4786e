/-! PLAIN LAW: the component reads a fact; tests -/
set_option maxRecDepth 100000
section ZZM1
variable {kx X n h o a : Nat} {B : Nat → Nat} {te fa : Nat → CS → Option ((Nat ⊕ Nat) × CS)}
theorem wl_sign {s x : Nat} (h : cur B n s = x) (hx : ltB x = false) : wl B n s = 0 := by
  unfold wl okW
  rw [h, hx]; rfl
/-- a sum, a sign, a sum -/
def twoS (te fa : Nat → CS → Option ((Nat ⊕ Nat) × CS)) (x0 : Nat) (τ14 : CS) : Option ((Nat ⊕ Nat) × CS) :=
  xbx (d_su 8 x0 τ14) (fun r16 τ16 =>
  if gT τ16.1 x0 = 3 then
  xbd (f_c_X2_here τ16.1 x0 τ16.2) fun r18 τ18 =>
  if r18 = 60 then
  Jc_X2_fact_148 te fa x0 r16 r18 (τ16.1, τ18)
  else
  if r18 = 62 then
  Jc_X2_fact_148 te fa x0 r16 r18 (τ16.1, τ18)
  else
  if r18 = 61 then
  Jc_X2_fact_148 te fa x0 r16 r18 (τ16.1, τ18)
  else
  xbd (f_c_X2_wrong τ16.1 x0 1 (cI τ18 302 x0) τ18) fun r25 τ25 =>
  if gT τ16.1 r25 = 4 then
  some ((.inr r25, (τ16.1, τ25)))
  else none
  else none) (fun q27 τ27 => some ((.inr q27, τ27)))
theorem C_148 {x s a5 ev : Nat} {cs : List Nat} {τ τ4 τ5 : CS} (hsu : SubV kx X n B 26 0 o 0 0 (d_su 8)) (hx : x = 60 ∨ x = 62 ∨ x = 61) (hm1 : 60 * (n + 2 - a) ≤ grc τ.1 + 40) (hm2 : 600 * (n + 2 - a) + 2 * n + 10 ≤ grs τ.1 + 400) (ha1 : a ≤ n) (hn : n ≤ 1600) (hgz : X + 1671 ≤ gz τ.1) (p04 : PF X τ τ4) (hcx : cI τ.2 305 (X + 28) = nI (ctx kx)) (hw1 : grc τ.1 ≤ grc τ4.1 + 6 * wl B n s) (hw2 : grs τ.1 ≤ grs τ4.1 + 12 * wl B n s) (hwl : s + wl B n s ≤ n) (hge : a ≤ s) (hwe : wl B n s ≤ a5 - s)
    (u2 : Parse B n kx 0 o s [] (.inr (cs, a5))) (u3 : PI τ5 X n B a5 o) (u4 : VAL kx X 26 (gz τ4.1) (gz τ5.1) τ5.1 τ5.2 ev cs) (p5 : PF X τ4 τ5) (u5 : s < a5) (u6 : grc τ4.1 + 0 ≤ grc τ5.1 + 40 * (a5 - s)) (u7 : grs τ4.1 + 0 ≤ grs τ5.1 + 400 * (a5 - s)) (hxx : cur B n (sk B n a5) = x)
    (par5 : ∀ r, gon (Parse B n kx) 0 o s r (fun cs p1 =>
    (cur B n (sk B n p1) ≠ 60 ∧ cur B n (sk B n p1) ≠ 62 ∧ cur B n (sk B n p1) ≠ 61 ∧ r = .inl (1, sk B n p1)) ∨
    ((cur B n (sk B n p1) = 60 ∨ cur B n (sk B n p1) = 62 ∨ cur B n (sk B n p1) = 61) ∧ gon (Parse B n kx) 0 o (sk B n p1 + 1) r (fun cs2 p2 => r = .inr (cs ++ cs2 ++ [if cur B n (sk B n p1) = 60 then 7 else if cur B n (sk B n p1) = 62 then 8 else 9], p2)))) → Parse B n kx 9 o a [] r) (h26 : 26 ≤ h) : OK (Jc_X2_fact_148 te fa (X + 28) ev (nI x) (τ5.1, uI τ5.2 302 (X + 28) (nI (sk B n a5)))) (TPost kx X n B (h + 1) 9 o a 40 400 0 τ) := by
  have p05 := p04.trans p5
  have hgz4 := p04.1
  obtain ⟨ha5, -, hgz5, -⟩ := u3.le
  have g5 := sk_g (B := B) ha5
  have clt := cur_lt hxx (by omega)
  have piH : PI (τ5.1, uI τ5.2 302 (X + 28) (nI (sk B n a5))) X n B (sk B n a5) o := u3.pf PF.at2 (u3.1.at2 g5.2.1)
  have iH := piH.1.2.2.1.2.2.2.1
  dsimp only at iH
  unfold Jc_X2_fact_148
  rw [if_pos u3.1.1.2.2.1]
  dsimp only
  rw [iH, nl_1, nI_add, uI_uI]
  have pi6 : PI (τ5.1, uI τ5.2 302 (X + 28) (nI (sk B n a5 + 1))) X n B (sk B n a5 + 1) o := u3.pf PF.at2 (u3.1.at2 (by omega))
  have p06 : PF X τ (τ5.1, uI τ5.2 302 (X + 28) (nI (sk B n a5 + 1))) := p05.trans PF.at2
  obtain ⟨τ7, e7, st7, z7, t7, c7, s7⟩ := C_new (t := 16) (τ := (τ5.1, uI τ5.2 302 (X + 28) (nI (sk B n a5 + 1)))) (by show 1 ≤ grc τ5.1; omega) (by show 3 ≤ grs τ5.1; omega)
  have s7 : grs τ7.1 = grs τ5.1 - 3 := s7
  have c7 : grc τ7.1 = grc τ5.1 - 1 := c7
  dsimp only at e7 st7 z7 t7
  have hz45 := p5.1
  have pi7 : PI τ7 X n B (sk B n a5 + 1) o := pi6.st st7 (by omega)
  have pf7 : PF X τ τ7 := p06.st st7 (by omega) (by omega)
  have cx7 : cI τ7.2 305 (X + 28) = nI (ctx kx) := by rw [pf7.2.2.2.1 305 (by omega) (by omega) (by omega)]; exact hcx
  rw [e7, xbd_some, if_pos pi7.1.1.2.2.1]
  obtain ⟨⟨r8, τ8⟩, e8, p8, hh8⟩ := hsu τ7 (sk B n a5 + 1) ⟨pi7, cx7, by omega, by omega⟩
  rw [e8]
  dsimp only at p8 hh8
  have p08 := pf7.trans p8
  rcases hh8 with ⟨kf, q, v1, v2, v3, v4, v5⟩ | ⟨ev2, cs2, a8, v1, v2, v3, v4, v5, v6, v7⟩
  · subst v1
    rw [xbx_r]
    exact OK_some ⟨p08, Or.inl ⟨kf, q, rfl, v2, par5 _ (Or.inr ⟨cs, a5, u2, Or.inr ⟨by rw [hxx]; exact hx, Or.inl ⟨_, v3, rfl⟩⟩⟩), by dsimp only at v4 ⊢; omega, by dsimp only at v5 ⊢; omega⟩⟩
  subst v1
  have hgz8 := p8.1
  generalize hzp : gz τ5.1 = zp at *
  have t8 : gT τ8.1 zp = 16 := by rw [(p8.2.1 zp (by omega) (by omega)).1]; exact t7
  generalize hτ9 : ((vR (vR τ8.1 1600 zp (some ev)) 1601 zp (some ev2), uI τ8.2 1602 zp (nI x)) : CS) = τ9
  have e9 : f_a_X18_init zp ev (nI x) ev2 τ8 = some τ9 := by
    unfold f_a_X18_init f_a_X14_init
    rw [Option.bind_some, if_pos t8, hτ9]
  have g9 : gz τ9.1 = gz τ8.1 ∧ grc τ9.1 = grc τ8.1 ∧ grs τ9.1 = grs τ8.1 := by rw [← hτ9]; exact ⟨rfl, rfl, rfl⟩
  have G9 : ∀ b, b ≠ zp → gT τ9.1 b = gT τ8.1 b ∧ gN τ9.1 b = gN τ8.1 b ∧ (∀ k, gR τ9.1 k b = gR τ8.1 k b) ∧ ∀ i, gA τ9.1 b i = gA τ8.1 b i := fun b hb => by
    rw [← hτ9]
    refine ⟨rfl, rfl, fun k => ?_, fun i => rfl⟩
    show gR (vR (vR τ8.1 1600 zp (some ev)) 1601 zp (some ev2)) k b = _
    rw [vR_R, if_neg (fun q => hb q.2), vR_R, if_neg (fun q => hb q.2)]
  have E9 : ∀ b, b ≠ zp → Eq1 τ8.2 τ9.2 b := fun b hb => by rw [← hτ9]; exact (Eq1.refl τ8.2 b).uI hb
  have st9 : STz zp τ8 τ9 := ⟨by omega, fun b _ hb => G9 b (by omega), fun b hb => E9 b (by omega)⟩
  rw [xbx_l, e9, Option.bind_some]
  have w1 : VAL kx X 26 (gz τ4.1) zp τ9.1 τ9.2 ev cs := (((u4.pf (τ' := (τ5.1, uI τ5.2 302 (X + 28) (nI (sk B n a5 + 1)))) PF.at2 (by omega) (by omega)).st st7 (Nat.le_refl _)).pf p8 (by omega) (by omega)).of (fun b b1 b2 => G9 b (by omega)) (fun b b1 b2 => E9 b (by omega))
  have w2 : VAL kx X 26 (gz τ7.1) (gz τ8.1) τ9.1 τ9.2 ev2 cs2 := v4.of (fun b b1 b2 => G9 b (by omega)) (fun b b1 b2 => E9 b (by omega))
  have hv : TVAL kx X 27 (gz τ.1) (gz τ9.1) τ9.1 τ9.2 zp (cs ++ cs2 ++ [cmpC x]) := TVAL_than hx (by rw [← hτ9]; exact t8) (by rw [← hτ9]; show gR (vR (vR τ8.1 1600 zp (some ev)) 1601 zp (some ev2)) 1600 zp = _; rw [vR_R, if_neg (by omega), vR_R, if_pos ⟨rfl, rfl⟩]) (by rw [← hτ9]; show gR (vR (vR τ8.1 1600 zp (some ev)) 1601 zp (some ev2)) 1601 zp = _; rw [vR_R, if_pos ⟨rfl, rfl⟩]) (by rw [← hτ9]; show cI (uI τ8.2 1602 zp (nI x)) 1602 zp = _; rw [cI_uI, if_pos ⟨rfl, rfl⟩]) w1 w2 (by omega) (by omega) (by omega)
  have ga8 := sk_g (B := B) v3.le.1
  refine OK_some ⟨p08.st st9 (by omega) (by omega), Or.inr ⟨zp, _, a8, a8, rfl, par5 _ (Or.inr ⟨cs, a5, u2, Or.inr ⟨by rw [hxx]; exact hx, Or.inr ⟨cs2, a8, v2, ?_⟩⟩⟩), rfl, v3.st st9 (by omega), hv.up (by omega) (Nat.le_refl _) (Nat.le_refl _), by omega, ?_, ?_⟩⟩
  · rw [hxx]; rfl
  · show grc τ.1 + 40 ≤ grc τ9.1 + _ + 3 * 0 * _
    omega
  · show grs τ.1 + 400 ≤ grs τ9.1 + _ + 6 * 0 * _
    omega

theorem C_twoS {s : Nat} {τ τ4 : CS} (hsu : SubV kx X n B 26 0 o 0 0 (d_su 8)) (h26 : 26 ≤ h) (hm1 : 60 * (n + 2 - a) ≤ grc τ.1 + 40) (hm2 : 600 * (n + 2 - a) + 2 * n + 10 ≤ grs τ.1 + 400) (ha1 : a ≤ n) (hn : n ≤ 1600) (hgz : X + 1671 ≤ gz τ.1) (p04 : PF X τ τ4) (hcx : cI τ.2 305 (X + 28) = nI (ctx kx)) (hw1 : grc τ.1 ≤ grc τ4.1 + 6 * wl B n s) (hw2 : grs τ.1 ≤ grs τ4.1 + 12 * wl B n s) (hwl : s + wl B n s ≤ n) (hge : a ≤ s) (hs : sk B n s = s) (z6 : PI τ4 X n B s o)
    (par5 : ∀ r, gon (Parse B n kx) 0 o s r (fun cs p1 =>
    (cur B n (sk B n p1) ≠ 60 ∧ cur B n (sk B n p1) ≠ 62 ∧ cur B n (sk B n p1) ≠ 61 ∧ r = .inl (1, sk B n p1)) ∨
    ((cur B n (sk B n p1) = 60 ∨ cur B n (sk B n p1) = 62 ∨ cur B n (sk B n p1) = 61) ∧ gon (Parse B n kx) 0 o (sk B n p1 + 1) r (fun cs2 p2 => r = .inr (cs ++ cs2 ++ [if cur B n (sk B n p1) = 60 then 7 else if cur B n (sk B n p1) = 62 then 8 else 9], p2)))) → Parse B n kx 9 o a [] r) : OK (twoS te fa (X + 28) τ4) (TPost kx X n B (h + 1) 9 o a 40 400 0 τ) := by
  have cx4 : cI τ4.2 305 (X + 28) = nI (ctx kx) := by rw [p04.2.2.2.1 305 (by omega) (by omega) (by omega)]; exact hcx
  have hgz4 := p04.1
  unfold twoS
  obtain ⟨⟨r5, τ5⟩, e5, p5, hh⟩ := hsu τ4 s ⟨z6, cx4, by omega, by omega⟩
  rw [e5]
  dsimp only at p5 hh
  have p05 := p04.trans p5
  rcases hh with ⟨kf, q, u1, u2, u3, u4, u5⟩ | ⟨ev, cs, a5, u1, u2, u3, u4, u5, u6, u7⟩
  · subst u1
    rw [xbx_r]
    exact OK_some ⟨p05, Or.inl ⟨kf, q, rfl, u2, par5 _ (Or.inl ⟨_, u3, rfl⟩), by dsimp only at u4 ⊢; omega, by dsimp only at u5 ⊢; omega⟩⟩
  · subst u1
    obtain ⟨ha5, -, hgz5, -⟩ := u3.le
    have g5 := sk_g (B := B) ha5
    have hwe : wl B n s ≤ a5 - s := by
      have q := Parse_we u2 (by omega) (by omega) cs a5 rfl
      rw [hs] at q
      unfold wl
      by_cases e : okW B n s = true
      · rw [if_pos e]
        have := q.2.2 (Or.inl rfl) e
        omega
      · rw [if_neg e]; omega
    have hcu5 := u3.1.2.2.1.cur_le (p := sk B n a5)
    have piH : PI (τ5.1, uI τ5.2 302 (X + 28) (nI (sk B n a5))) X n B (sk B n a5) o := u3.pf PF.at2 (u3.1.at2 g5.2.1)
    have iH := piH.1.2.2.1.2.2.2.1
    dsimp only at iH
    rw [xbx_l, if_pos u3.1.1.2.2.1, C_here u3.1.1 u3.1.2.2.1, xbd_some]
    by_cases hx : cur B n (sk B n a5) = 60 ∨ cur B n (sk B n a5) = 62 ∨ cur B n (sk B n a5) = 61
    · generalize hxx : cur B n (sk B n a5) = x at *
      have clt := cur_lt hxx (by omega)
      have hch : chI x = nI x := by unfold chI; rw [if_neg (by omega)]
      have hj := C_148 (te := te) (fa := fa) (h := h) hsu hx hm1 hm2 ha1 hn hgz p04 hcx hw1 hw2 hwl hge hwe u2 u3 u4 p5 u5 u6 u7 hxx par5 h26
      rw [hch]
      rcases hx with hx | hx | hx
      · subst hx
        rw [if_pos (show nI 60 = 60 from rfl)]; exact hj
      · subst hx
        rw [if_neg (show ¬ nI 62 = 60 by decide), if_pos (show nI 62 = 62 from rfl)]; exact hj
      · subst hx
        rw [if_neg (show ¬ nI 61 = 60 by decide), if_neg (show ¬ nI 61 = 62 by decide), if_pos (show nI 61 = 61 from rfl)]; exact hj
    · have n60 : cur B n (sk B n a5) ≠ 60 := fun q => hx (Or.inl q)
      have n62 : cur B n (sk B n a5) ≠ 62 := fun q => hx (Or.inr (Or.inl q))
      have n61 : cur B n (sk B n a5) ≠ 61 := fun q => hx (Or.inr (Or.inr q))
      rw [if_neg (by show ¬ chI _ = nI 60; rw [ch_ne hcu5 (by omega)]; exact n60), if_neg (by show ¬ chI _ = nI 62; rw [ch_ne hcu5 (by omega)]; exact n62), if_neg (by show ¬ chI _ = nI 61; rw [ch_ne hcu5 (by omega)]; exact n61), iH, C_wrong u3.1.1, xbd_some, if_pos u3.1.1.2.2.2.2.1]
      refine OK_some ⟨p05.trans ((PR.refl (X := X)).u302.u29.u29).pf, Or.inl ⟨1, sk B n a5, rfl, FLT.mk, par5 _ (Or.inr ⟨cs, a5, u2, Or.inl ⟨n60, n62, n61, rfl⟩⟩), ?_, ?_⟩⟩
      · show grc τ.1 + 40 ≤ grc τ5.1 + _ + 3 * 0 * 0
        omega
      · show grs τ.1 + 400 ≤ grs τ5.1 + _ + 6 * 0 * 0
        omega

theorem C_fact (hk2 : kx ≤ 2) (h26 : 26 ≤ h) (hsu : SubV kx X n B 26 0 o 0 0 (d_su 8)) (hte : SubT kx X n B h 5 (o + 1) 0 0 2 te) (hfa : SubT kx X n B h 9 (o + 1) 40 400 0 fa) : SubT kx X n B (h + 1) 9 o 40 400 0 (f_x_X2_fact te fa) := by
  intro τ a hpre
  obtain ⟨hP, hcx, hm1, hm2⟩ := hpre
  obtain ⟨ha1, hn, hgz, ho⟩ := hP.le
  have g := sk_g (B := B) ha1
  have hi := sk_i (B := B) ha1
  have hcu := hP.1.2.2.1.cur_le (p := sk B n a)
  have t3 := hP.1.1.2.2.1
  have hwl := wl_le (B := B) g.2.1
  have par : ∀ r, faS B n (Parse B n kx) o (sk B n a) r → Parse B n kx 9 o a [] r := fun r hr => Parse.step (Or.inr (Or.inr (Or.inr (Or.inr (Or.inr (Or.inr (Or.inr (Or.inr (Or.inr ⟨rfl, hr⟩)))))))))
  have piS : PI (τ.1, uI τ.2 302 (X + 28) (nI (sk B n a))) X n B (sk B n a) o := hP.pf PF.at2 (hP.1.at2 g.2.1)
  have pfS : PF X τ (τ.1, uI τ.2 302 (X + 28) (nI (sk B n a))) := PF.at2
  have i302 := piS.1.2.2.1.2.2.2.1
  dsimp only at i302
  unfold f_x_X2_fact
  rw [if_pos t3, C_here hP.1.1 hP.1.2.2.1, xbd_some]
  by_cases hc : cur B n (sk B n a) = 91
  · -- a square
    have clt := cur_lt hc (by omega)
    rw [hc, if_pos (by decide), i302]
    obtain ⟨⟨rr, τ3⟩, e3, p3, g3, y3, n3⟩ := C_opens (p := sk B n a) piS
    rw [e3]
    dsimp only at p3 g3 y3 n3
    have p03 : PF X τ τ3 := pfS.trans p3
    have gg3 : grc τ3.1 = grc τ.1 ∧ grs τ3.1 = grs τ.1 ∧ gz τ3.1 = gz τ.1 := by rw [g3]; exact ⟨rfl, rfl, rfl⟩
    by_cases e6 : o = 6
    · obtain ⟨y4, y5⟩ := y3 e6
      subst y4
      rw [xbx_r]
      exact OK_some ⟨p03, Or.inl ⟨4, sk B n a, rfl, y5, par _ (Or.inl ⟨hc, Or.inl ⟨e6, rfl⟩⟩), by dsimp only; omega, by dsimp only; omega⟩⟩
    · obtain ⟨n4, n5, -⟩ := n3 e6
      subst n4
      have i302' : cI τ3.2 302 (X + 28) = nI (sk B n a) := n5.1.2.2.1.2.2.2.1
      have pi4 : PI (τ3.1, uI τ3.2 302 (X + 28) (nI (sk B n a + 1))) X n B (sk B n a + 1) (o + 1) := n5.pf PF.at2 (n5.1.at2 (by omega))
      have p04 : PF X τ (τ3.1, uI τ3.2 302 (X + 28) (nI (sk B n a + 1))) := p03.trans PF.at2
      have c4 : cI (uI τ3.2 302 (X + 28) (nI (sk B n a + 1))) 305 (X + 28) = nI (ctx kx) := by
        have := p04.2.2.2.1 305 (by omega) (by omega) (by omega)
        rw [show cI (uI τ3.2 302 (X + 28) (nI (sk B n a + 1))) 305 (X + 28) = cI τ.2 305 (X + 28) from this]; exact hcx
      rw [xbx_l, if_pos n5.1.1.2.2.1, i302', nl_1, nI_add]
      obtain ⟨⟨r5, τ5⟩, e5, p5, hh⟩ := hte _ (sk B n a + 1) ⟨pi4, c4, by show _ ≤ grc τ3.1 + 0; omega, by show _ ≤ grs τ3.1 + 0; omega⟩
      rw [e5]
      dsimp only at p5 hh
      have p05 := p04.trans p5
      rcases hh with ⟨kf, q, u1, u2, u3, u4, u5⟩ | ⟨ev, cs, p1, a1, u1, u2, u3, u4, u5, u6, u7, u8⟩
      · subst u1
        rw [xbx_r]
        have u4 : grc τ3.1 + 0 ≤ grc τ5.1 + 60 * (n + 2 - (sk B n a + 1)) + 3 * 0 * 0 := u4
        have u5 : grs τ3.1 + 0 ≤ grs τ5.1 + 600 * (n + 2 - (sk B n a + 1)) + 6 * 0 * 0 := u5
        exact OK_some ⟨p05, Or.inl ⟨kf, q, rfl, u2, par _ (Or.inl ⟨hc, Or.inr ⟨by omega, Or.inl ⟨_, u3, rfl⟩⟩⟩), by dsimp only; omega, by dsimp only; omega⟩⟩
      · subst u1
        rw [xbx_l, if_pos u4.1.1.2.2.1]
        have u7 : grc τ3.1 + 0 ≤ grc τ5.1 + 60 * (sk B n a1 - (sk B n a + 1)) + 3 * 2 * wl B n (sk B n a1) := u7
        have u8 : grs τ3.1 + 0 ≤ grs τ5.1 + 600 * (sk B n a1 - (sk B n a + 1)) + 6 * 2 * wl B n (sk B n a1) := u8
        have u5 : TVAL kx X h (gz τ3.1) (gz τ5.1) τ5.1 τ5.2 ev cs := u5
        obtain ⟨ha5, -, -, -⟩ := u4.le
        have g5 := sk_g (B := B) ha5
        have hwl5 := wl_le (B := B) g5.2.1
        obtain ⟨⟨r7, τ7⟩, e7, p7, g7, y7, n7⟩ := C_mustP (x := 93) u4 (by omega)
        rw [show (93 : Int32) = nI 93 from rfl, e7]
        dsimp only at p7 g7 y7 n7
        have gg7 : grc τ7.1 = grc τ5.1 ∧ grs τ7.1 = grs τ5.1 ∧ gz τ7.1 = gz τ5.1 := by rw [g7]; exact ⟨rfl, rfl, rfl⟩
        by_cases h93 : cur B n (sk B n a1) = 93
        · obtain ⟨y8, y9⟩ := y7 h93
          subst y8
          have wl0 := wl_sign h93 (by decide)
          have c93 := cur_lt h93 (by omega)
          obtain ⟨d1, d2⟩ := C_dec y9
          rw [xbx_l, if_pos y9.1.1.2.2.1]
          have gs1 := sk_g (B := B) d1.le.1
          refine OK_some ⟨(p05.trans p7).trans d2, Or.inr ⟨ev, cs, sk B n a1 + 1, sk B n a1 + 1, rfl, par _ (Or.inl ⟨hc, Or.inr ⟨by omega, Or.inr ⟨cs, p1, u2, Or.inl ⟨by rw [← u3]; exact h93, by rw [u3]⟩⟩⟩⟩), rfl, d1, ?_, by omega, ?_, ?_⟩⟩
          · rw [gg3.2.2] at u5
            exact (u5.pf (p7.trans d2) (by omega) (Nat.le_refl _)).up (by omega) (Nat.le_refl _) (p7.trans d2).1
          · show grc τ.1 + 40 ≤ grc τ7.1 + _ + 3 * 0 * _
            rw [wl0] at u7
            omega
          · show grs τ.1 + 400 ≤ grs τ7.1 + _ + 6 * 0 * _
            rw [wl0] at u8
            omega
        · obtain ⟨n8, n9⟩ := n7 h93
          subst n8
          rw [xbx_r]
          exact OK_some ⟨p05.trans p7, Or.inl ⟨1, sk B n a1, rfl, n9, par _ (Or.inl ⟨hc, Or.inr ⟨by omega, Or.inr ⟨cs, p1, u2, Or.inr ⟨by rw [← u3]; exact h93, by rw [u3]⟩⟩⟩⟩), by dsimp only; omega, by dsimp only; omega⟩⟩
  · rw [if_neg (by show ¬ chI _ = nI 91; rw [ch_ne hcu (by omega)]; exact hc)]
    obtain ⟨⟨rr, τ1⟩, e1, p1, c1, s1, o1, o2, o3⟩ := C_passesL (i := 17) piS (by decide) (by show 3 ≤ grc τ.1; omega) (by show _ ≤ grs τ.1; omega)
    rw [hi] at c1 s1 o1 o2 o3
    dsimp only at e1 p1 c1 s1 o1 o2 o3
    rw [show (117 : Nat) = 100 + 17 from rfl, e1]
    have p01 := pfS.trans p1
    have way : (ltB (cur B n (sk B n a)) = true ∧ alB B (sk B n a) = true) ∨ (okW B n (sk B n a) = true ∧ wd B n (sk B n a) = txtL.getD 17 []) ∨ (ltB (cur B n (sk B n a)) = false ∨ (okW B n (sk B n a) = true ∧ wd B n (sk B n a) ≠ txtL.getD 17 [])) := by
      cases hl : ltB (cur B n (sk B n a)) with
      | false => exact Or.inr (Or.inr (Or.inl rfl))
      | true =>
        cases hal : alB B (sk B n a) with
        | true => exact Or.inl ⟨rfl, rfl⟩
        | false =>
          have hok : okW B n (sk B n a) = true := by unfold okW; rw [hl, hal]; rfl
          by_cases e : wd B n (sk B n a) = txtL.getD 17 []
          · exact Or.inr (Or.inl ⟨hok, e⟩)
          · exact Or.inr (Or.inr (Or.inr ⟨hok, e⟩))
    rcases way with ⟨y1, y2⟩ | ⟨y1, y2⟩ | y
    · -- a word too soon
      obtain ⟨z1, z2⟩ := o1 y1 y2
      clear o1 o2 o3
      subst z1
      rw [xbx_r]
      exact OK_some ⟨p01, Or.inl ⟨1, sk B n a, rfl, z2, par _ (Or.inr (Or.inl ⟨y1, y2, rfl⟩)), by dsimp only; omega, by dsimp only; omega⟩⟩
    · -- not
      obtain ⟨z1, z2, z3⟩ := o2 y1 y2
      clear o1 o2 o3
      subst z1
      obtain ⟨w1, w2, -⟩ := okW_gt y1
      have ewl : wl B n (sk B n a) = we B n (sk B n a) - sk B n a := by unfold wl; rw [if_pos y1]
      rw [xbx_l, if_neg (by decide), if_pos z2.1.1.2.2.1, z3]
      obtain ⟨⟨r3, τ3⟩, e3, p3, g3, y3, n3⟩ := C_opens (p := sk B n a) z2
      rw [e3]
      dsimp only at p3 g3 y3 n3
      have p03 : PF X τ τ3 := p01.trans p3
      have gg3 : grc τ3.1 = grc τ1.1 ∧ grs τ3.1 = grs τ1.1 ∧ gz τ3.1 = gz τ1.1 := by rw [g3]; exact ⟨rfl, rfl, rfl⟩
      by_cases e6 : o = 6
      · obtain ⟨y4, y5⟩ := y3 e6
        subst y4
        rw [xbx_r]
        exact OK_some ⟨p03, Or.inl ⟨4, sk B n a, rfl, y5, par _ (Or.inr (Or.inr (Or.inl ⟨y1, y2, Or.inl ⟨e6, rfl⟩⟩))), by dsimp only; omega, by dsimp only; omega⟩⟩
      · obtain ⟨n4, n5, -⟩ := n3 e6
        subst n4
        obtain ⟨τ4, e4, st4, z4, t4, c4, s4⟩ := C_new (t := 14) (τ := τ3) (by omega) (by show 1 ≤ _; omega)
        have s4 : grs τ4.1 = grs τ3.1 - 1 := s4
        have hgz3 := p03.1
        generalize hzp : gz τ3.1 = zp at *
        have pi4 : PI τ4 X n B (we B n (sk B n a)) (o + 1) := n5.st st4 (by omega)
        have pf4 : PF X τ τ4 := p03.st st4 (by omega) (by omega)
        have cx4 : cI τ4.2 305 (X + 28) = nI (ctx kx) := by rw [pf4.2.2.2.1 305 (by omega) (by omega) (by omega)]; exact hcx
        rw [xbx_l, e4, xbd_some, if_pos pi4.1.1.2.2.1]
        obtain ⟨⟨r5, τ5⟩, e5, p5, hh⟩ := hfa τ4 (we B n (sk B n a)) ⟨pi4, cx4, by omega, by omega⟩
        rw [e5]
        dsimp only at p5 hh
        have p05 := pf4.trans p5
        rcases hh with ⟨kf, q, u1, u2, u3, u4, u5⟩ | ⟨ev, cs, p6, a1, u1, u2, u3, u4, u5, u6, u7, u8⟩
        · subst u1
          rw [xbx_r]
          exact OK_some ⟨p05, Or.inl ⟨kf, q, rfl, u2, par _ (Or.inr (Or.inr (Or.inl ⟨y1, y2, Or.inr ⟨by omega, Or.inl ⟨_, u3, rfl⟩⟩⟩))), by dsimp only; omega, by dsimp only; omega⟩⟩
        · subst u1
          have hgz5 := p5.1
          have t5 : gT τ5.1 zp = 14 := by rw [(p5.2.1 zp (by omega) (by omega)).1]; exact t4
          generalize hτ9 : ((vR τ5.1 1400 zp (some ev), τ5.2) : CS) = τ9
          have e9 : f_a_X16_init zp ev τ5 = some τ9 := by
            unfold f_a_X16_init f_a_X14_init
            rw [Option.bind_some, if_pos t5, hτ9]
          have g9 : gz τ9.1 = gz τ5.1 ∧ grc τ9.1 = grc τ5.1 ∧ grs τ9.1 = grs τ5.1 := by rw [← hτ9]; exact ⟨rfl, rfl, rfl⟩
          have G9 : ∀ b, b ≠ zp → gT τ9.1 b = gT τ5.1 b ∧ gN τ9.1 b = gN τ5.1 b ∧ (∀ k, gR τ9.1 k b = gR τ5.1 k b) ∧ ∀ i, gA τ9.1 b i = gA τ5.1 b i := fun b hb => by
            rw [← hτ9]
            refine ⟨rfl, rfl, fun k => ?_, fun i => rfl⟩
            show gR (vR τ5.1 1400 zp (some ev)) k b = _
            rw [vR_R, if_neg (fun q => hb q.2)]
          have E9 : ∀ b, Eq1 τ5.2 τ9.2 b := fun b => by rw [← hτ9]; exact Eq1.refl τ5.2 b
          have st9 : STz zp τ5 τ9 := ⟨by omega, fun b _ hb => G9 b (by omega), fun b hb => E9 b⟩
          have pi9 : PI τ9 X n B a1 (o + 1) := u4.st st9 (by omega)
          have pf9 : PF X τ τ9 := p05.st st9 (by omega) (by omega)
          obtain ⟨d1, d2⟩ := C_dec pi9
          have ga1 := sk_g (B := B) d1.le.1
          rw [xbx_l, e9, Option.bind_some, if_pos pi9.1.1.2.2.1]
          have v1 : TVAL kx X h (gz τ4.1) (gz τ5.1) τ9.1 τ9.2 ev cs := u5.of (fun b b1 b2 => G9 b (by omega)) (fun b b1 b2 => E9 b)
          have hv : TVAL kx X (h + 1) (gz τ.1) (gz τ9.1) τ9.1 τ9.2 zp (cs ++ [12]) := TVAL_not (by rw [← hτ9]; exact t5) (by rw [← hτ9]; show gR (vR τ5.1 1400 zp (some ev)) 1400 zp = _; rw [vR_R, if_pos ⟨rfl, rfl⟩]) v1 (by omega) (by omega)
          refine OK_some ⟨pf9.trans d2, Or.inr ⟨zp, _, p6, a1, rfl, par _ (Or.inr (Or.inr (Or.inl ⟨y1, y2, Or.inr ⟨by omega, Or.inr ⟨cs, p6, u2, rfl⟩⟩⟩))), u3, d1, hv.pf d2 (by omega) (Nat.le_refl _), by omega, ?_, ?_⟩⟩
          · show grc τ.1 + 40 ≤ grc τ9.1 + _ + 3 * 0 * _
            omega
          · show grs τ.1 + 400 ≤ grs τ9.1 + _ + 6 * 0 * _
            omega
    · -- neither
      obtain ⟨z1, a2, z2, z3, z3b⟩ := o3 y
      clear o1 o2 o3
      subst z1
      have ea2 : a2 = sk B n a := by have := (sk_g (B := B) z3.le.1).1; omega
      subst ea2
      rw [hi] at z2
      rw [xbx_l, if_pos rfl, if_pos z3.1.1.2.2.1]
      have hi2 : sk B n (sk B n a) = sk B n a := hi
      obtain ⟨⟨r4, τ4⟩, e4, p4, c4, s4, o4, o5, o6⟩ := C_passesL (i := 18) z3 (by decide) (by omega) (by omega)
      rw [hi] at c4 s4 o4 o5 o6
      dsimp only at e4 p4 c4 s4 o4 o5 o6
      rw [show (118 : Nat) = 100 + 18 from rfl, e4]
      have p04 := p01.trans p4
      have way2 : (okW B n (sk B n a) = true ∧ wd B n (sk B n a) = txtL.getD 18 []) ∨ ((ltB (cur B n (sk B n a)) = false ∨ (okW B n (sk B n a) = true ∧ wd B n (sk B n a) ≠ txtL.getD 18 [])) ∧ (ltB (cur B n (sk B n a)) = false ∨ (okW B n (sk B n a) = true ∧ wd B n (sk B n a) ≠ txtL.getD 17 [] ∧ wd B n (sk B n a) ≠ txtL.getD 18 []))) := by
        rcases y with y | ⟨y1, y2⟩
        · exact Or.inr ⟨Or.inl y, Or.inl y⟩
        · by_cases e : wd B n (sk B n a) = txtL.getD 18 []
          · exact Or.inl ⟨y1, e⟩
          · exact Or.inr ⟨Or.inr ⟨y1, e⟩, Or.inr ⟨y1, y2, e⟩⟩
      rcases way2 with ⟨y1, y2⟩ | ⟨yA, yB⟩
      · -- all
        obtain ⟨z4, z5, -⟩ := o5 y1 y2
        clear o4 o5 o6
        subst z4
        obtain ⟨w1, w2, -⟩ := okW_gt y1
        have ewl : wl B n (sk B n a) = we B n (sk B n a) - sk B n a := by unfold wl; rw [if_pos y1]
        have gw := sk_g (B := B) w2
        obtain ⟨τ5, e5, st5, zz5, t5, c5, s5⟩ := C_new (t := 15) (τ := τ4) (by omega) (by show 0 ≤ _; omega)
        have s5 : grs τ5.1 = grs τ4.1 - 0 := s5
        have hgz4 := p04.1
        rw [xbx_l, if_neg (by decide), e5, xbd_some]
        unfold f_a_X17_init f_a_X14_init
        rw [Option.bind_some, Option.bind_some]
        refine OK_some ⟨p04.st st5 (by omega) (by omega), Or.inr ⟨gz τ4.1, [13], we B n (sk B n a), we B n (sk B n a), rfl, par _ (Or.inr (Or.inr (Or.inr (Or.inl ⟨y1, y2, rfl⟩)))), rfl, z5.st st5 (by omega), (TVAL_all (z := gz τ4.1) (hi := gz τ5.1) t5 (by omega)).up (by omega) (by omega) (Nat.le_refl _), by omega, ?_, ?_⟩⟩
        · show grc τ.1 + 40 ≤ grc τ5.1 + _ + 3 * 0 * _
          omega
        · show grs τ.1 + 400 ≤ grs τ5.1 + _ + 6 * 0 * _
          omega
      · -- two sums
        obtain ⟨z4, a4, z5, z6, z7⟩ := o6 yA
        clear o4 o5 o6
        subst z4
        have ea4 : a4 = sk B n a := by have := (sk_g (B := B) z6.le.1).1; omega
        subst ea4
        show OK (xbx (some (Sum.inl 0, τ4)) _ _) _
        rw [xbx_l, if_pos rfl, if_pos z6.1.1.2.2.1]
        exact C_twoS (te := te) (fa := fa) hsu h26 hm1 hm2 ha1 hn hgz p04 hcx (by omega) (by omega) hwl g.1 hi z6 (fun r hr => par r (Or.inr (Or.inr (Or.inr (Or.inr ⟨hc, yB, hr⟩)))))
end ZZM1
