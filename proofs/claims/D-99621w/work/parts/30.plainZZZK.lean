/-! PLAIN LAW: the component reads rows of facts -/
set_option maxRecDepth 100000
def CSTT (R1 R2 W : Nat) (τ τ' : CS) (b w : Nat) : Prop := grc τ.1 + R1 ≤ grc τ'.1 + 60 * b + 3 * W * w ∧ grs τ.1 + R2 ≤ grs τ'.1 + 600 * b + 6 * W * w
def RMT (R1 R2 n a : Nat) (τ : CS) : Prop := 60 * (n + 2 - a) ≤ grc τ.1 + R1 ∧ 600 * (n + 2 - a) + 2 * n + 10 ≤ grs τ.1 + R2
def PRET (kx X n : Nat) (B : Nat → Nat) (o R1 R2 : Nat) (τ : CS) (a : Nat) : Prop := PI τ X n B a o ∧ cI τ.2 305 (X + 28) = nI (ctx kx) ∧ RMT R1 R2 n a τ
/-- what a reader of tests leaves -/
def TPost (kx X n : Nat) (B : Nat → Nat) (h m o a R1 R2 W : Nat) (τ : CS) (r : (Nat ⊕ Nat) × CS) : Prop := PF X τ r.2 ∧
  ((∃ k q, r.1 = .inr (X + 29) ∧ FLT r.2.2 X k q ∧ Parse B n kx m o a [] (.inl (k, q)) ∧ CSTT R1 R2 0 τ r.2 (n + 2 - a) 0) ∨
   (∃ e cs p' a', r.1 = .inl e ∧ Parse B n kx m o a [] (.inr (cs, p')) ∧ sk B n a' = sk B n p' ∧ PI r.2 X n B a' o ∧ TVAL kx X h (gz τ.1) (gz r.2.1) r.2.1 r.2.2 e cs ∧ a < sk B n a' ∧ CSTT R1 R2 W τ r.2 (sk B n a' - a) (wl B n (sk B n a'))))
def SubT (kx X n : Nat) (B : Nat → Nat) (h m o R1 R2 W : Nat) (f : Nat → CS → Option ((Nat ⊕ Nat) × CS)) : Prop := ∀ τ a, PRET kx X n B o R1 R2 τ a → OK (f (X + 28) τ) (TPost kx X n B h m o a R1 R2 W τ)
def ftB (sub : Nat → CS → Option ((Nat ⊕ Nat) × CS)) (w : Nat) (x0 : Nat) (x1 : Nat) (τ : CS) : Option ((CS) ⊕ ((CS) ⊕ (((Nat ⊕ Nat) × CS)))) :=
  if gT τ.1 x0 = 3 then
  xbx (f_x_X2_passes x0 (gA τ.1 0 w) τ) (fun r10 τ10 =>
  if r10 = 0 then
  some (.inr (.inl τ10))
  else
  if gT τ10.1 x1 = 13 then
  (gR τ10.1 1300 x1).bind fun b12 =>
  if gT τ10.1 x0 = 3 then
  xbx (sub x0 τ10) (fun r14 τ14 =>
  if gT τ14.1 b12 = 18 then
  xbd (f_a_J2_add b12 r14 τ14) fun r16 τ16 =>
  some (.inl τ16)
  else none) (fun q17 τ17 => some (.inr (.inr (.inr q17, τ17))))
  else none
  else none) (fun q18 τ18 => some (.inr (.inr (.inr q18, τ18))))
  else none
def ftW (sub : Nat → CS → Option ((Nat ⊕ Nat) × CS)) (w : Nat) (fl : Int32) (x0 : Nat) (τ : CS) : Option ((Nat ⊕ Nat) × CS) :=
  xbd (aNew 13 τ) fun r1 τ1 =>
  (f_a_X15_init r1 fl τ1).bind fun τ2 =>
  if gT τ2.1 r1 = 13 then
  (gR τ2.1 1300 r1).bind fun b4 =>
  if gT τ2.1 x0 = 3 then
  xbx (sub x0 τ2) (fun r6 τ6 =>
  if gT τ6.1 b4 = 18 then
  xbd (f_a_J2_add b4 r6 τ6) fun r8 τ8 =>
  (itr (fun s_ : CS => ftB sub w x0 r1 s_) 4096 τ8).bind fun b19 =>
  (Sum.elim (fun e20 => some ((.inl r1, e20))) (fun r_ => some r_)) b19
  else none) (fun q21 τ21 => some ((.inr q21, τ21)))
  else none
  else none
theorem both_ft {te fa : Nat → CS → Option ((Nat ⊕ Nat) × CS)} {x0 : Nat} {τ : CS} : f_x_X2_both te fa x0 τ = ftW (f_x_X2_fact te fa) 119 1 x0 τ := rfl
theorem test_ft {te fa : Nat → CS → Option ((Nat ⊕ Nat) × CS)} {x0 : Nat} {τ : CS} : f_x_X2_test te fa x0 τ = ftW (f_x_X2_both te fa) 120 0 x0 τ := rfl
theorem wl_le {B : Nat → Nat} {n s : Nat} (h : s ≤ n) : s + wl B n s ≤ n := by
  unfold wl
  by_cases e : okW B n s = true
  · rw [if_pos e]
    have := okW_gt e
    omega
  · rw [if_neg e]; omega
section ZZK1
variable {kx X n h m mr o r1 r2 W lo e iw : Nat} {B : Nat → Nat} {sub : Nat → CS → Option ((Nat ⊕ Nat) × CS)} {all : Bool}
/-- what the loop leaves -/
def FPost (kx X n : Nat) (B : Nat → Nat) (h mr o lo e W p a k : Nat) (all : Bool) (acc : List Nat) (arr : Nat) (τ : CS) (w : CS ⊕ ((Nat ⊕ Nat) × CS)) : Prop :=
      (∃ kf q τ', w = .inr (.inr (X + 29), τ') ∧ FLT τ'.2 X kf q ∧ Parse B n kx mr o p acc (.inl (kf, q)) ∧ PL lo X τ τ' ∧ grc τ.1 + 3 * W * wl B n (sk B n a) ≤ grc τ'.1 + 60 * (n + 2 - sk B n a) ∧ grs τ.1 + 4 * gN τ.1 arr + 6 * W * wl B n (sk B n a) ≤ grs τ'.1 + 8 * k + 8 + 600 * (n + 2 - sk B n a)) ∨
      (∃ cs p' a' τ' k' arr' hi', w = .inl τ' ∧ Parse B n kx mr o p acc (.inr (cs, p')) ∧ sk B n a' = sk B n p' ∧ PI τ' X n B a' o ∧ FC kx X h lo hi' τ'.1 τ'.2 e arr' k' all cs ∧ hi' ≤ gz τ'.1 ∧ k ≤ k' ∧ 2 * k' ≤ sk B n a' + 1 ∧ sk B n a ≤ sk B n a' ∧ PL lo X τ τ' ∧ grc τ.1 + 3 * W * wl B n (sk B n a) ≤ grc τ'.1 + 60 * (sk B n a' - sk B n a) + 3 * (W + 1) * wl B n (sk B n a') ∧ grs τ.1 + 4 * gN τ.1 arr + 8 * k' + 6 * W * wl B n (sk B n a) ≤ grs τ'.1 + 4 * gN τ'.1 arr' + 8 * k + 600 * (sk B n a' - sk B n a) + 6 * (W + 1) * wl B n (sk B n a'))
theorem ft_turn {p a k arr hi f : Nat} {acc : List Nat} {τ : CS} (hW : W = 0 ∨ W = 1) (hsub : SubT kx X n B h m o (r1 + 20) (r2 + 200) W sub) (hiw : iw < txtL.length) (hn : n ≤ 1600) (hlo : X + 1671 ≤ lo)
    (hsoon : ∀ p acc, ltB (cur B n (sk B n p)) = true → alB B (sk B n p) = true → Parse B n kx mr o p acc (.inl (1, sk B n p)))
    (hword : ∀ p acc r, okW B n (sk B n p) = true → wd B n (sk B n p) = txtL.getD iw [] → gon (Parse B n kx) m o (we B n (sk B n p)) r (fun cs p1 => Parse B n kx mr o p1 (acc ++ cs ++ [fcC all]) r) → Parse B n kx mr o p acc r)
    (hend : ∀ p acc, (ltB (cur B n (sk B n p)) = false ∨ (okW B n (sk B n p) = true ∧ wd B n (sk B n p) ≠ txtL.getD iw [])) → Parse B n kx mr o p acc (.inr (acc, sk B n p)))
    (hsk : sk B n a = sk B n p) (hP : PI τ X n B a o) (hcx : cI τ.2 305 (X + 28) = nI (ctx kx)) (hC : FC kx X h lo hi τ.1 τ.2 e arr k all acc) (hhi : hi ≤ gz τ.1) (hlh : lo ≤ hi) (hk0 : 0 < k) (hka : 2 * k ≤ sk B n a + 1) (hr1 : 60 * (n + 2 - sk B n a) ≤ grc τ.1 + 3 * W * wl B n (sk B n a)) (hr2 : 600 * (n + 2 - sk B n a) + 2 * n + 10 + 8 * k ≤ grs τ.1 + 4 * gN τ.1 arr + 6 * W * wl B n (sk B n a)) (hf : 0 < f)
    (ih : ∀ p' a' τ' k' acc' arr' hi', sk B n a < sk B n a' ∧ sk B n a' ≤ n → sk B n a' = sk B n p' → PI τ' X n B a' o → cI τ'.2 305 (X + 28) = nI (ctx kx) → FC kx X h lo hi' τ'.1 τ'.2 e arr' k' all acc' → hi' ≤ gz τ'.1 → lo ≤ hi' → 0 < k' → 2 * k' ≤ sk B n a' + 1 → 60 * (n + 2 - sk B n a') ≤ grc τ'.1 + 3 * W * wl B n (sk B n a') → 600 * (n + 2 - sk B n a') + 2 * n + 10 + 8 * k' ≤ grs τ'.1 + 4 * gN τ'.1 arr' + 6 * W * wl B n (sk B n a') → ∀ f', f = f' + 1 → OK (itr (fun s_ : CS => ftB sub (100 + iw) (X + 28) e s_) f' τ') (FPost kx X n B h mr o lo e W p' a' k' all acc' arr' τ')) :
    OK (itr (fun s_ : CS => ftB sub (100 + iw) (X + 28) e s_) f τ) (FPost kx X n B h mr o lo e W p a k all acc arr τ) := by
  obtain ⟨f0, rfl⟩ : ∃ f0, f = f0 + 1 := ⟨f - 1, by omega⟩
  obtain ⟨ha, -, hgz, ho⟩ := hP.le
  have g := sk_g (B := B) ha
  have hwl := wl_le (B := B) g.2.1
  obtain ⟨cap1, ce, l0, cl, cl2⟩ := hC.cap
  have t3 : gT τ.1 (X + 28) = 3 := hP.1.1.2.2.1
  have hroom : 3 ≤ grc τ.1 ∧ 2 * n + 4 ≤ grs τ.1 := by rcases hW with rfl | rfl <;> omega
  obtain ⟨⟨rr, τ1⟩, e1, p1, c1, s1, o1, o2, o3⟩ := C_passesL (i := iw) hP hiw hroom.1 hroom.2
  dsimp only at p1 c1 s1 o1 o2 o3
  have pl1 : PL lo X τ τ1 := p1.pl (by omega)
  have hso := hsoon p acc
  have hwo := hword p acc
  have hen := hend p acc
  rw [← hsk] at hso hwo hen
  -- the three ways
  have way : (ltB (cur B n (sk B n a)) = true ∧ alB B (sk B n a) = true) ∨ (okW B n (sk B n a) = true ∧ wd B n (sk B n a) = txtL.getD iw []) ∨ (ltB (cur B n (sk B n a)) = false ∨ (okW B n (sk B n a) = true ∧ wd B n (sk B n a) ≠ txtL.getD iw [])) := by
    cases hl : ltB (cur B n (sk B n a)) with
    | false => exact Or.inr (Or.inr (Or.inl rfl))
    | true =>
      cases hal : alB B (sk B n a) with
      | true => exact Or.inl ⟨rfl, rfl⟩
      | false =>
        have hok : okW B n (sk B n a) = true := by unfold okW; rw [hl, hal]; rfl
        by_cases e : wd B n (sk B n a) = txtL.getD iw []
        · exact Or.inr (Or.inl ⟨hok, e⟩)
        · exact Or.inr (Or.inr (Or.inr ⟨hok, e⟩))
  rcases way with ⟨y1, y2⟩ | ⟨y1, y2⟩ | y
  · obtain ⟨z1, z2⟩ := o1 y1 y2
    subst z1
    have wl0 : wl B n (sk B n a) = 0 := by unfold wl okW; rw [y2]; simp
    have hb : ftB sub (100 + iw) (X + 28) e τ = some (.inr (.inr (.inr (X + 29), τ1))) := by
      unfold ftB
      rw [if_pos t3, e1, xbx_r]
    exact ⟨_, itr_inr hb, Or.inl ⟨1, sk B n a, τ1, rfl, z2, hso y1 y2, pl1, by rw [wl0] at c1 ⊢; omega, by rw [wl0] at s1 ⊢; omega⟩⟩
  · obtain ⟨z1, z2, -⟩ := o2 y1 y2
    subst z1
    obtain ⟨w1, w2, -⟩ := okW_gt y1
    have ewl : wl B n (sk B n a) = we B n (sk B n a) - sk B n a := by unfold wl; rw [if_pos y1]
    have hgz1 := p1.1
    obtain ⟨ag1, ag2⟩ := p1.ag (lo := lo) (hi := hi) (by omega) hhi
    have hC1 := hC.of ag1 ag2
    have t13 := hC1.cap.2.1
    have cx1 : cI τ1.2 305 (X + 28) = nI (ctx kx) := pl1.c305 hcx
    have gNa1 : gN τ1.1 arr = gN τ.1 arr := by
      obtain ⟨l, ad, -, -, -, -, b1, b2, b3, -⟩ := hC
      exact (ag1 arr b3.1 b3.2).2.1
    obtain ⟨⟨rr2, τ2⟩, e2, p2, hh⟩ := hsub τ1 (we B n (sk B n a)) ⟨z2, cx1, by rcases hW with rfl | rfl <;> omega, by rcases hW with rfl | rfl <;> omega⟩
    dsimp only at p2 hh
    obtain ⟨l1, hl1⟩ : ∃ l, gR τ1.1 1300 e = some l := ⟨_, hC1.cap.2.2.choose_spec.1⟩
    have hb : ftB sub (100 + iw) (X + 28) e τ = xbx (sub (X + 28) τ1) (fun r14 τ14 => if gT τ14.1 l1 = 18 then xbd (f_a_J2_add l1 r14 τ14) fun r16 τ16 => some (.inl τ16) else none) (fun q17 τ17 => some (.inr (.inr (.inr q17, τ17)))) := by
      unfold ftB
      rw [if_pos t3, e1, xbx_l, if_neg (by decide), if_pos t13, hl1, Option.bind_some, if_pos z2.1.1.2.2.1]
    rw [e2] at hb
    have pl2 : PL lo X τ τ2 := pl1.trans (p2.pl (by omega))
    rcases hh with ⟨kf, q, u1, u2, u3, u4, u5⟩ | ⟨ev, cs, p3, a2, u1, u2, u3, u4, u5, u6, u7, u8⟩
    · subst u1
      rw [xbx_r] at hb
      exact ⟨_, itr_inr hb, Or.inl ⟨kf, q, τ2, rfl, u2, hwo _ y1 y2 (Or.inl ⟨_, u3, rfl⟩), pl2, by rcases hW with rfl | rfl <;> omega, by rcases hW with rfl | rfl <;> omega⟩⟩
    · subst u1
      rw [xbx_l] at hb
      have hgz2 := p2.1
      obtain ⟨ha2, -, -, -⟩ := u4.le
      have g2 := sk_g (B := B) ha2
      have hwl2 := wl_le (B := B) g2.2.1
      obtain ⟨ag3, ag4⟩ := p2.ag (lo := lo) (hi := hi) (by omega) (by omega)
      have hC2 := hC1.of ag3 ag4
      have gNa2 : gN τ2.1 arr = gN τ.1 arr := by
        obtain ⟨l, ad, -, -, -, -, b1, b2, b3, -⟩ := hC
        rw [(ag3 arr b3.1 b3.2).2.1]; exact gNa1
      obtain ⟨l2, hl2, ⟨r3, τ3⟩, e3, arr3, hC3, st3, c3, s3⟩ := FC.add (acc' := acc ++ cs ++ [fcC all]) hC2 u5 (by omega) (Nat.le_refl _) hlh (by omega) (by rcases hW with rfl | rfl <;> omega) (by rcases hW with rfl | rfl <;> omega) (fun q => by omega) (fun _ => rfl)
      have e12 : l2 = l1 := by
        have : gR τ2.1 1300 e = gR τ1.1 1300 e := by
          obtain ⟨l, ad, -, -, -, -, b1, -⟩ := hC
          exact (ag3 e b1.1 b1.2).2.2.1 1300
        rw [hl2, hl1] at this
        injection this
      subst e12
      dsimp only at hC3 st3 c3 s3
      have tl2 : gT τ2.1 l2 = 18 := by
        obtain ⟨-, -, l, q1, q2⟩ := hC2.cap
        rw [hl2] at q1
        injection q1 with q1
        rw [q1]; exact q2
      rw [if_pos tl2, e3, xbd_some] at hb
      have pi3 : PI τ3 X n B a2 o := u4.st st3 hlo
      have pl3 : PL lo X τ τ3 := pl2.trans (st3.pl (by omega))
      have hgz3 := st3.1
      obtain ⟨w, ew, hw⟩ := ih p3 a2 τ3 (k + 1) _ arr3 (gz τ3.1) ⟨by omega, g2.2.1⟩ u3 pi3 (pl3.c305 hcx) hC3 (Nat.le_refl _) (by omega) (by omega) (by omega) (by rcases hW with rfl | rfl <;> omega) (by rcases hW with rfl | rfl <;> omega) f0 rfl
      refine ⟨w, by rw [itr_inl hb]; exact ew, ?_⟩
      rcases hw with ⟨kf, q, τ4, v1, v2, v3, v4, v5, v6⟩ | ⟨cs2, p4, a4, τ4, k2, arr2, hi3, v1, v2, v3, v4, v5, v6, v7, v8, v9, v10, v11, v12⟩
      · exact Or.inl ⟨kf, q, τ4, v1, v2, hwo _ y1 y2 (Or.inr ⟨cs, p3, u2, v3⟩), pl3.trans v4, by rcases hW with rfl | rfl <;> omega, by rcases hW with rfl | rfl <;> omega⟩
      · exact Or.inr ⟨cs2, p4, a4, τ4, k2, arr2, hi3, v1, hwo _ y1 y2 (Or.inr ⟨cs, p3, u2, v2⟩), v3, v4, v5, v6, by omega, v8, by omega, pl3.trans v10, by rcases hW with rfl | rfl <;> omega, by rcases hW with rfl | rfl <;> omega⟩
  · obtain ⟨z1, a2, z2, z3, -⟩ := o3 y
    subst z1
    have hb : ftB sub (100 + iw) (X + 28) e τ = some (.inr (.inl τ1)) := by
      unfold ftB
      rw [if_pos t3, e1, xbx_l, if_pos rfl]
    obtain ⟨ag1, ag2⟩ := p1.ag (lo := lo) (hi := hi) (by omega) hhi
    have gNa1 : gN τ1.1 arr = gN τ.1 arr := by
      obtain ⟨l, ad, -, -, -, -, b1, b2, b3, -⟩ := hC
      exact (ag1 arr b3.1 b3.2).2.1
    have hi2 := sk_i (B := B) ha
    have hgz1 := p1.1
    exact ⟨_, itr_inr hb, Or.inr ⟨acc, sk B n a, a2, τ1, k, arr, hi, rfl, hen y, by rw [z2, hi2], z3, hC.of ag1 ag2, by omega, Nat.le_refl _, by rw [z2]; exact hka, by rw [z2]; exact Nat.le_refl _, pl1, by rw [z2]; rcases hW with rfl | rfl <;> omega, by rw [z2]; rcases hW with rfl | rfl <;> omega⟩⟩
theorem ft_loop (hW : W = 0 ∨ W = 1) (hsub : SubT kx X n B h m o (r1 + 20) (r2 + 200) W sub) (hiw : iw < txtL.length) (hn : n ≤ 1600) (hlo : X + 1671 ≤ lo)
    (hsoon : ∀ p acc, ltB (cur B n (sk B n p)) = true → alB B (sk B n p) = true → Parse B n kx mr o p acc (.inl (1, sk B n p)))
    (hword : ∀ p acc r, okW B n (sk B n p) = true → wd B n (sk B n p) = txtL.getD iw [] → gon (Parse B n kx) m o (we B n (sk B n p)) r (fun cs p1 => Parse B n kx mr o p1 (acc ++ cs ++ [fcC all]) r) → Parse B n kx mr o p acc r)
    (hend : ∀ p acc, (ltB (cur B n (sk B n p)) = false ∨ (okW B n (sk B n p) = true ∧ wd B n (sk B n p) ≠ txtL.getD iw [])) → Parse B n kx mr o p acc (.inr (acc, sk B n p))) :
    ∀ d p a τ k acc arr hi, n - sk B n a ≤ d → sk B n a = sk B n p → PI τ X n B a o → cI τ.2 305 (X + 28) = nI (ctx kx) → FC kx X h lo hi τ.1 τ.2 e arr k all acc → hi ≤ gz τ.1 → lo ≤ hi → 0 < k → 2 * k ≤ sk B n a + 1 → 60 * (n + 2 - sk B n a) ≤ grc τ.1 + 3 * W * wl B n (sk B n a) → 600 * (n + 2 - sk B n a) + 2 * n + 10 + 8 * k ≤ grs τ.1 + 4 * gN τ.1 arr + 6 * W * wl B n (sk B n a) → ∀ f, d < f →
    OK (itr (fun s_ : CS => ftB sub (100 + iw) (X + 28) e s_) f τ) (FPost kx X n B h mr o lo e W p a k all acc arr τ) := by
  intro d
  induction d with
  | zero =>
    intro p a τ k acc arr hi hd hsk hP hcx hC hhi hlh hk0 hka hr1 hr2 f hf
    exact ft_turn hW hsub hiw hn hlo hsoon hword hend hsk hP hcx hC hhi hlh hk0 hka hr1 hr2 hf (fun p' a' τ' k' acc' arr' hi' q => absurd q (by omega))
  | succ d ih =>
    intro p a τ k acc arr hi hd hsk hP hcx hC hhi hlh hk0 hka hr1 hr2 f hf
    exact ft_turn hW hsub hiw hn hlo hsoon hword hend hsk hP hcx hC hhi hlh hk0 hka hr1 hr2 (by omega) (fun p' a' τ' k' acc' arr' hi' q q0 q1 q2 q3 q4 q5 q6 q7 q8 q9 f' q10 => ih p' a' τ' k' acc' arr' hi' (by omega) q0 q1 q2 q3 q4 q5 q6 q7 q8 q9 f' (by omega))
/-- a whole row of facts -/
theorem ft_all {mw : Nat} {fl : Int32} (hfl : fl = b32 all) (hq1 : r1 ≤ 40) (hq2 : r2 ≤ 400) (hW : W = 0 ∨ W = 1) (hsub : SubT kx X n B h m o (r1 + 20) (r2 + 200) W sub) (hiw : iw < txtL.length)
    (hsoon : ∀ p acc, ltB (cur B n (sk B n p)) = true → alB B (sk B n p) = true → Parse B n kx mr o p acc (.inl (1, sk B n p)))
    (hword : ∀ p acc r, okW B n (sk B n p) = true → wd B n (sk B n p) = txtL.getD iw [] → gon (Parse B n kx) m o (we B n (sk B n p)) r (fun cs p1 => Parse B n kx mr o p1 (acc ++ cs ++ [fcC all]) r) → Parse B n kx mr o p acc r)
    (hend : ∀ p acc, (ltB (cur B n (sk B n p)) = false ∨ (okW B n (sk B n p) = true ∧ wd B n (sk B n p) ≠ txtL.getD iw [])) → Parse B n kx mr o p acc (.inr (acc, sk B n p)))
    (hfirst : ∀ a r, gon (Parse B n kx) m o a r (fun cs p1 => Parse B n kx mr o p1 cs r) → Parse B n kx mw o a [] r) : SubT kx X n B (h + 1) mw o r1 r2 (W + 1) (ftW sub (100 + iw) fl) := by
  intro τ a hpre
  obtain ⟨hP, hcx, hm1, hm2⟩ := hpre
  obtain ⟨ha, hn, hX, ho⟩ := hP.le
  have hroom : 3 ≤ grc τ.1 ∧ 7 ≤ grs τ.1 := by omega
  obtain ⟨τ1, τ2, e1, e2, hC0, hz2, st2, gc2, gs2, n2⟩ := C_fcNew (kx := kx) (X := X) (h := h) (all := all) hroom.1 hroom.2 fl hfl
  generalize hz : gz τ.1 = z at *
  have pf2 : PF X τ τ2 := PF.st PF.refl st2 (by omega) (by omega)
  have pi2 : PI τ2 X n B a o := hP.st st2 hX
  have cx2 : cI τ2.2 305 (X + 28) = nI (ctx kx) := by rw [(st2.2.2 (X + 28) (by omega)).1]; exact hcx
  obtain ⟨-, t13, l, hl, hlt⟩ := hC0.cap
  obtain ⟨⟨rr, τ4⟩, e4, p4, hh⟩ := hsub τ2 a ⟨pi2, cx2, by omega, by omega⟩
  dsimp only at p4 hh
  unfold ftW
  rw [e1, xbd_some, e2, Option.bind_some, if_pos t13, hl, Option.bind_some, if_pos pi2.1.1.2.2.1, e4]
  have pf4 : PF X τ τ4 := pf2.trans p4
  rcases hh with ⟨kf, q, u1, u2, u3, u4, u5⟩ | ⟨ev, cs, p1, a1, u1, u2, u3, u4, u5, u6, u7, u8⟩
  · subst u1
    rw [xbx_r]
    exact OK_some ⟨pf4, Or.inl ⟨kf, q, rfl, u2, hfirst a _ (Or.inl ⟨_, u3, rfl⟩), by dsimp only; omega, by dsimp only; omega⟩⟩
  · subst u1
    rw [xbx_l]
    obtain ⟨ha1, -, -, -⟩ := u4.le
    have g1 := sk_g (B := B) ha1
    have hwl := wl_le (B := B) g1.2.1
    obtain ⟨ag1, ag2⟩ := p4.ag (lo := z) (hi := z + 3) (by omega) (by omega)
    have hC4 := hC0.of ag1 ag2
    have hgz4 := p4.1
    have k1 : gN τ4.1 (z + 2) = 2 := by rw [(ag1 (z + 2) (by omega) (by omega)).2.1]; exact n2
    obtain ⟨l2, hl2, ⟨r6, τ6⟩, e6, arr6, hC6, st6, gc6, gs6⟩ := FC.add (acc' := cs) hC4 u5 (by omega) (Nat.le_refl _) (by omega) (by omega) (by rcases hW with rfl | rfl <;> omega) (by rcases hW with rfl | rfl <;> omega) (fun _ => rfl) (fun q => absurd q (Nat.lt_irrefl 0))
    have e12 : l2 = l := by
      have : gR τ4.1 1300 z = gR τ2.1 1300 z := (ag1 z (by omega) (by omega)).2.2.1 1300
      rw [hl2, hl] at this
      injection this
    subst e12
    dsimp only at hC6 st6 gc6 gs6
    have tl2 : gT τ4.1 l2 = 18 := by
      obtain ⟨-, -, l, q1, q2⟩ := hC4.cap
      rw [hl2] at q1
      injection q1 with q1
      rw [q1]; exact q2
    have pi6 : PI τ6 X n B a1 o := u4.st st6 hX
    have cx6 : cI τ6.2 305 (X + 28) = nI (ctx kx) := by rw [(st6.2.2 (X + 28) (by omega)).1, p4.2.2.2.1 305 (by omega) (by omega) (by omega)]; exact cx2
    have pf6 : PF X τ τ6 := pf4.st st6 (by omega) (by omega)
    have hgz6 := st6.1
    rw [if_pos tl2, e6, xbd_some]
    obtain ⟨w, ew, hw⟩ := ft_loop (e := z) (lo := z) hW hsub hiw hn hX hsoon hword hend (n - sk B n a1) p1 a1 τ6 1 cs arr6 (gz τ6.1) (Nat.le_refl _) u3 pi6 cx6 hC6 (Nat.le_refl _) (by omega) (by omega) (by omega) (by rcases hW with rfl | rfl <;> omega) (by rcases hW with rfl | rfl <;> omega) 4096 (by omega)
    rw [ew, Option.bind_some]
    rcases hw with ⟨kf, q, τ3, v1, v2, v3, v4, v5, v6⟩ | ⟨cs2, p4', a4, τ3, k2', arr2, hi3, v1, v2, v3, v4, v5, v6, v7, v8, v9, v10, v11, v12⟩
    · subst v1
      exact OK_some ⟨pf6.tl v4 (by omega), Or.inl ⟨kf, q, rfl, v2, hfirst a _ (Or.inr ⟨cs, p1, u2, v3⟩), by dsimp only; rcases hW with rfl | rfl <;> omega, by dsimp only; rcases hW with rfl | rfl <;> omega⟩⟩
    · subst v1
      obtain ⟨cap1, -, -⟩ := v5.cap
      obtain ⟨ha4, -, -, -⟩ := v4.le
      have g4 := sk_g (B := B) ha4
      exact OK_some ⟨pf6.tl v10 (by omega), Or.inr ⟨z, cs2, p4', a4, rfl, hfirst a _ (Or.inr ⟨cs, p1, u2, v2⟩), v3, v4, (v5.val (by omega) (by omega)).up (Nat.le_refl _) (by omega) v6, by omega, by dsimp only; rcases hW with rfl | rfl <;> omega, by dsimp only; rcases hW with rfl | rfl <;> omega⟩⟩
end ZZK1
