/-! PLAIN LAW: the component reads an atom -/
set_option maxRecDepth 100000
theorem xbx_l {α β : Type} {v : α} {t : CS} {f : α → CS → Option β} {h : Nat → CS → Option β} : xbx (some (.inl v, t)) f h = f v t := rfl
theorem xbx_r {α β : Type} {v : Nat} {t : CS} {f : α → CS → Option β} {h : Nat → CS → Option β} : xbx (some (.inr v, t)) f h = h v t := rfl
section ZZH1
variable {kx X n h o a : Nat} {B : Nat → Nat} {τ τ1 : CS} {su ra : Nat → CS → Option ((Nat ⊕ Nat) × CS)}
theorem WPost.back {P Q : Res → Prop} {h2 a1 R1 R2 S1 S2 : Nat} {r : (Nat ⊕ Nat) × CS} (w : WPost P kx X n B h o a1 R1 R2 τ1 r) (p : PF X τ τ1) (hPQ : ∀ r, P r → Q r) (ha : a ≤ a1) (ha1 : a1 ≤ n) (hh : h ≤ h2) (c1 : grc τ.1 + S1 ≤ grc τ1.1 + R1 + 40 * (a1 - a)) (c2 : grs τ.1 + S2 ≤ grs τ1.1 + R2 + 400 * (a1 - a)) : WPost Q kx X n B h2 o a S1 S2 τ r := by
  obtain ⟨w1, w2⟩ := w
  refine ⟨p.trans w1, ?_⟩
  rcases w2 with ⟨k, q, u1, u2, u3, u4, u5⟩ | ⟨e, cs, a', u1, u2, u3, u4, u5, u6, u7⟩
  · exact Or.inl ⟨k, q, u1, u2, hPQ _ u3, by omega, by omega⟩
  · exact Or.inr ⟨e, cs, a', u1, hPQ _ u2, u3, u4.up hh p.1 (Nat.le_refl _), by omega, by omega, by omega⟩
theorem has_b : ∀ kx, kx < 3 → ∀ k, k < 18 → ((((nI (ctx kx) : Int32) >>> (nI k &&& 31)) &&& 1) = 1 ↔ alw kx k = true) := by decide +kernel
theorem C_hasK {g : CG} {c : CC} {k : Nat} (hk : kx ≤ 2) (h18 : k < 18) : f_c_X0_has g (nI (ctx kx)) (nI k) c = some (b32 (alw kx k), c) := by
  unfold f_c_X0_has
  have e := has_b kx (by omega) k h18
  cases ha : alw kx k with
  | true => rw [if_pos (e.mpr ha)]; rfl
  | false => rw [if_neg (fun q => by rw [e.mp q] at ha; cases ha)]; rfl
theorem ctx2 : ∀ kx, kx < 3 → (nI (ctx kx) = 261128 ↔ kx = 2) := by decide +kernel
theorem nI_m {k : Nat} (h : k < 100) : ¬ nI k = -1 := by
  intro z
  have z := congrArg Int32.toInt z
  rw [nI_toInt (by omega)] at z
  have : (-1 : Int32).toInt = -1 := by decide
  omega
/-- looking up -/
theorem C_looked {j s : Nat} (hj : j < 2) (hra : SubV 2 X n B h 4 (o + 1) 20 200 ra) (hP : PI τ X n B a o) (h303 : cI τ.2 303 (X + 28) = nI s) (hcx : cI τ.2 305 (X + 28) = nI (ctx 2)) (hm : RM 0 0 n a τ) :
    OK (f_x_X2_looked ra (X + 28) (nI j) τ) (WPost (fun r => opn o s r (gon (Parse B n 2) 4 (o + 1) a r (fun cs p1 => r = .inr (cs ++ [60 + j], p1)))) 2 X n B (h + 1) o a 10 100 τ) := by
  obtain ⟨ha1, hn, hgz, ho⟩ := hP.le
  obtain ⟨hm1, hm2⟩ := hm
  unfold f_x_X2_looked
  rw [if_pos hP.1.1.2.2.1, h303]
  obtain ⟨⟨rr, τ3⟩, e3, p3, g3, y3, n3⟩ := C_opens (p := s) hP
  rw [e3]
  dsimp only at p3 g3 y3 n3
  have gg3 : grc τ3.1 = grc τ.1 ∧ grs τ3.1 = grs τ.1 ∧ gz τ3.1 = gz τ.1 := by rw [g3]; exact ⟨rfl, rfl, rfl⟩
  by_cases e6 : o = 6
  · obtain ⟨y4, y5⟩ := y3 e6
    subst y4
    exact OK_some ⟨p3, Or.inl ⟨4, s, rfl, y5, Or.inl ⟨e6, rfl⟩, by dsimp only; omega, by dsimp only; omega⟩⟩
  · obtain ⟨n4, n5, -⟩ := n3 e6
    subst n4
    obtain ⟨τ4, e4, st4, z4, t4, c4, s4⟩ := C_new (t := 12) (τ := τ3) (by omega) (by show 3 ≤ _; omega)
    have s4 : grs τ4.1 = grs τ3.1 - 3 := s4
    generalize hzp : gz τ3.1 = zp at *
    have pi4 : PI τ4 X n B a (o + 1) := n5.st st4 (by omega)
    have pf4 : PF X τ τ4 := p3.st st4 (by omega) (by omega)
    have cx4 : cI τ4.2 305 (X + 28) = nI (ctx 2) := by rw [pf4.2.2.2.1 305 (by omega) (by omega) (by omega)]; exact hcx
    rw [xbx_l, e4, xbd_some, if_pos pi4.1.1.2.2.1, pi4.1.1.2.2.2.2.2.1, Option.bind_some]
    obtain ⟨⟨r5, τ5⟩, e5, p5, hh⟩ := hra τ4 a ⟨pi4, cx4, by omega, by omega⟩
    rw [e5]
    dsimp only at p5 hh
    rcases hh with ⟨kf, q, u1, u2, u3, u4, u5⟩ | ⟨ev, cs, a1, u1, u2, u3, u4, u5, u6, u7⟩
    · subst u1
      exact OK_some ⟨pf4.trans p5, Or.inl ⟨kf, q, rfl, u2, Or.inr ⟨by omega, Or.inl ⟨_, u3, rfl⟩⟩, by dsimp only at u4 ⊢; omega, by dsimp only at u5 ⊢; omega⟩⟩
    · subst u1
      have hgz5 := p5.1
      have t5 : gT τ5.1 zp = 12 := by rw [(p5.2.1 zp (by omega) (by omega)).1]; exact t4
      generalize hτ9 : ((vR (vR τ5.1 1202 zp (some X)) 1201 zp (some ev), uI τ5.2 1200 zp (nI j)) : CS) = τ9
      have e9 : f_a_X13_init zp X (nI j) ev τ5 = some τ9 := by
        unfold f_a_X13_init f_a_X8_init
        rw [if_pos t5, Option.bind_some, ← hτ9]
        show (if gT τ5.1 zp = 12 then _ else _) = _
        rw [if_pos t5]
      have g9 : gz τ9.1 = gz τ5.1 ∧ grc τ9.1 = grc τ5.1 ∧ grs τ9.1 = grs τ5.1 := by rw [← hτ9]; exact ⟨rfl, rfl, rfl⟩
      have G9 : ∀ b, b ≠ zp → gT τ9.1 b = gT τ5.1 b ∧ gN τ9.1 b = gN τ5.1 b ∧ (∀ k, gR τ9.1 k b = gR τ5.1 k b) ∧ ∀ i, gA τ9.1 b i = gA τ5.1 b i := fun b hb => by
        rw [← hτ9]
        refine ⟨rfl, rfl, fun k => ?_, fun i => rfl⟩
        show gR (vR (vR τ5.1 1202 zp (some X)) 1201 zp (some ev)) k b = _
        rw [vR_R, if_neg (fun q => hb q.2), vR_R, if_neg (fun q => hb q.2)]
      have E9 : ∀ b, b ≠ zp → Eq1 τ5.2 τ9.2 b := fun b hb => by rw [← hτ9]; exact (Eq1.refl τ5.2 b).uI hb
      have st9 : STz zp τ5 τ9 := ⟨by omega, fun b _ hb => G9 b (by omega), fun b hb => E9 b (by omega)⟩
      have pi9 : PI τ9 X n B a1 (o + 1) := u3.st st9 (by omega)
      have pf9 : PF X τ τ9 := (pf4.trans p5).st st9 (by omega) (by omega)
      obtain ⟨d1, d2⟩ := C_dec pi9
      have ha1' := u3.le.1
      show OK ((f_a_X13_init zp X (nI j) ev τ5).bind fun τ7 => if gT τ7.1 (X + 28) = 3 then _ else none) _
      rw [e9, Option.bind_some, if_pos pi9.1.1.2.2.1]
      have v1 : VAL 2 X h (gz τ4.1) (gz τ5.1) τ9.1 τ9.2 ev cs := u4.of (fun b b1 b2 => G9 b (by omega)) (fun b b1 b2 => E9 b (by omega))
      have hv : VAL 2 X (h + 1) (gz τ.1) (gz τ9.1) τ9.1 τ9.2 zp (cs ++ [60 + j]) := VAL_look (by rw [← hτ9]; exact t5) (by rw [← hτ9]; show gR (vR (vR τ5.1 1202 zp (some X)) 1201 zp (some ev)) 1201 zp = _; rw [vR_R, if_pos ⟨rfl, rfl⟩]) (by rw [← hτ9]; show gR (vR (vR τ5.1 1202 zp (some X)) 1201 zp (some ev)) 1202 zp = _; rw [vR_R, if_neg (by omega), vR_R, if_pos ⟨rfl, rfl⟩]) (by rw [← hτ9]; show cI (uI τ5.2 1200 zp (nI j)) 1200 zp = _; rw [cI_uI, if_pos ⟨rfl, rfl⟩]) hj v1 (by omega) (by omega)
      refine OK_some ⟨pf9.trans d2, Or.inr ⟨zp, _, a1, rfl, Or.inr ⟨by omega, Or.inr ⟨cs, a1, u2, rfl⟩⟩, d1, hv.pf d2 (by omega) (Nat.le_refl _), u5, ?_, ?_⟩⟩
      · show grc τ.1 + 10 ≤ grc τ9.1 + _
        omega
      · show grs τ.1 + 100 ≤ grs τ9.1 + _
        omega
/-- a word that names no part -/
theorem C_80 {s str : Nat} {L : List Nat} (hk2 : kx ≤ 2) (hsu : SubV kx X n B h 0 (o + 1) 0 0 su) (hra : SubV kx X n B h 4 (o + 1) 20 200 ra) (hP : PI τ X n B a o) (h303 : cI τ.2 303 (X + 28) = nI s) (hcx : cI τ.2 305 (X + 28) = nI (ctx kx)) (hm : RM 0 0 n a τ) (hS : Str τ.1 τ.2 str L) (hL : lts L)
    {P : Res → Prop}
    (h2 : ∀ r, (kx = 2 ∧ ∃ j, j < 2 ∧ lookL.getD j [] = L ∧ opn o s r (gon (Parse B n kx) 4 (o + 1) a r (fun cs p1 => r = .inr (cs ++ [60 + j], p1)))) → P r)
    (h3 : ∀ r t, t < 2 → L = txtL.getD (15 + t) [] → ((cur B n (sk B n a) ≠ 40 ∧ r = .inl (1, sk B n a)) ∨ (cur B n (sk B n a) = 40 ∧ opn o (sk B n a) r (gon (Parse B n kx) 0 (o + 1) (sk B n a + 1) r (fun cs p1 => mus B n 44 p1 r (fun p2 => gon (Parse B n kx) 0 (o + 1) p2 r (fun cs2 p3 => mus B n 41 p3 r (fun p4 => r = .inr (cs ++ cs2 ++ [5 + t], p4)))))))) → P r)
    (h4 : (kx = 2 → ∀ j, j < 2 → lookL.getD j [] ≠ L) → (∀ t, t < 2 → L ≠ txtL.getD (15 + t) []) → P (.inl (1, s))) :
    OK (Jc_X2_atom_80 su ra (X + 28) str τ) (WPost P kx X n B (h + 1) o a 10 100 τ) := by
  obtain ⟨ha1, hn, hgz, ho⟩ := hP.le
  obtain ⟨hm1, hm2⟩ := hm
  have x15 := (hP.2.1 15 (by decide)).str
  have x16 := (hP.2.1 16 (by decide)).str
  obtain ⟨l15, -⟩ := okWs_g ok_txt (k := 15) (by decide)
  obtain ⟨l16, -⟩ := okWs_g ok_txt (k := 16) (by decide)
  have eq15 : f_c_J6_equals τ.1 str (gA τ.1 0 115) τ.2 = some (b32 (decide (L = txtL.getD 15 [])), τ.2) := C_equals hS x15 hL l15
  have eq16 : f_c_J6_equals τ.1 str (gA τ.1 0 116) τ.2 = some (b32 (decide (L = txtL.getD 16 [])), τ.2) := C_equals hS x16 hL l16
  have t3 := hP.1.1.2.2.1
  -- min, max
  have h143 : ∀ t, t < 2 → L = txtL.getD (15 + t) [] → OK (Jc_X2_atom_143 su ra (X + 28) str τ) (WPost P kx X n B (h + 1) o a 10 100 τ) := by
    intro t ht hLt
    unfold Jc_X2_atom_143
    rw [if_pos hS.1, eq15, xbd_some]
    obtain ⟨⟨r1, τ1⟩, e1, w1⟩ := C_within2 ht hsu hP hcx ⟨by omega, by omega⟩
    have w2 : WPost P kx X n B (h + 1) o a 10 100 τ (r1, τ1) := w1.back PF.refl (fun r hr => h3 r t ht hLt hr) (Nat.le_refl _) ha1 (Nat.le_refl _) (by omega) (by omega)
    have fin : ∀ (o : Option ((Nat ⊕ Nat) × CS)), o = some (r1, τ1) → OK (xbx o (fun r20 τ20 => some ((.inl r20, τ20))) (fun q21 τ21 => some ((.inr q21, τ21)))) (WPost P kx X n B (h + 1) _ a 10 100 τ) := fun o e => by
      rw [e]
      cases r1 with
      | inl v => exact ⟨_, rfl, w2⟩
      | inr v => exact ⟨_, rfl, w2⟩
    rcases (show t = 0 ∨ t = 1 by omega) with rfl | rfl
    · rw [decide_eq_true hLt, if_neg (show ¬ b32 true = 0 by decide), if_pos t3]
      exact fin _ e1
    · rw [decide_eq_false (by rw [hLt]; exact ne_beq mm_ne), if_pos (show b32 false = 0 by decide), if_pos t3]
      exact fin _ e1
  -- behind the look-up
  have h101 : (kx = 2 → ∀ j, j < 2 → lookL.getD j [] ≠ L) → OK (Jc_X2_atom_101 su ra (X + 28) str (-1) τ) (WPost P kx X n B (h + 1) o a 10 100 τ) := by
    intro hnl
    unfold Jc_X2_atom_101
    rw [if_pos rfl, if_pos hS.1, eq15, xbd_some]
    by_cases e15 : L = txtL.getD 15 []
    · rw [decide_eq_true e15, if_neg (show ¬ b32 true = 0 by decide)]
      exact h143 0 (by omega) e15
    · rw [decide_eq_false e15, if_pos (show b32 false = 0 by decide), eq16, xbd_some]
      by_cases e16 : L = txtL.getD 16 []
      · rw [decide_eq_true e16, if_neg (show ¬ b32 true = 0 by decide)]
        exact h143 1 (by omega) e16
      · rw [decide_eq_false e16, if_pos (show b32 false = 0 by decide), if_pos t3, h303, C_wrong hP.1.1, xbd_some, if_pos hP.1.1.2.2.2.2.1]
        refine OK_some ⟨((PR.refl (X := X)).u29.u29).pf, Or.inl ⟨1, s, rfl, FLT.mk, h4 hnl (fun t ht => ?_), ?_, ?_⟩⟩
        · rcases (show t = 0 ∨ t = 1 by omega) with rfl | rfl
          · exact e15
          · exact e16
        · show grc τ.1 + 10 ≤ grc τ.1 + _
          omega
        · show grs τ.1 + 100 ≤ grs τ.1 + _
          omega
  unfold Jc_X2_atom_80
  rw [if_pos t3, hcx]
  have e2 := ctx2 kx (by omega)
  by_cases hk : kx = 2
  · rw [if_pos (e2.mpr hk)]
    obtain ⟨⟨r, c'⟩, er, e3, hr⟩ := C_find (k := 2) hP.2.2.2.2.1 ok_look (by decide) hS hL
    have e3 : c' = τ.2 := e3
    subst e3
    have hr2 : fndR lookL L r := hr
    clear hr
    rw [er, xbd_some]
    rcases hr2 with ⟨j, j1, rfl, j2, -⟩ | ⟨rfl, hr2⟩
    · have j1 : j < 2 := j1
      unfold Jc_X2_atom_101
      rw [if_neg (nI_m (by omega)), if_pos t3]
      subst hk
      obtain ⟨⟨r1, τ1⟩, e1, w1⟩ := C_looked (s := s) j1 hra hP h303 hcx ⟨by omega, by omega⟩
      have w2 : WPost P 2 X n B (h + 1) o a 10 100 τ (r1, τ1) := w1.back PF.refl (fun r hr => h2 r ⟨rfl, j, j1, j2, hr⟩) (Nat.le_refl _) ha1 (Nat.le_refl _) (by omega) (by omega)
      rw [e1]
      cases r1 with
      | inl v => exact ⟨_, rfl, w2⟩
      | inr v => exact ⟨_, rfl, w2⟩
    · exact h101 (fun _ j hj => hr2 j hj)
  · rw [if_neg (fun z => hk (e2.mp z))]
    exact h101 (fun z => absurd z hk)
end ZZH1
