/-! PLAIN LAW: the component reads rows of parts joined by signs -/
set_option maxRecDepth 100000
def CST (R1 R2 : Nat) (τ τ' : CS) (b : Nat) : Prop := grc τ.1 + R1 ≤ grc τ'.1 + 40 * b ∧ grs τ.1 + R2 ≤ grs τ'.1 + 400 * b
def RM (R1 R2 n a : Nat) (τ : CS) : Prop := 40 * (n + 2 - a) ≤ grc τ.1 + R1 ∧ 400 * (n + 2 - a) + 2 * n + 10 ≤ grs τ.1 + R2
def ctx (kx : Nat) : Nat := if kx = 0 then 255 else if kx = 1 then 783 else 261128
def PRE (kx X n : Nat) (B : Nat → Nat) (o R1 R2 : Nat) (τ : CS) (a : Nat) : Prop := PI τ X n B a o ∧ cI τ.2 305 (X + 28) = nI (ctx kx) ∧ RM R1 R2 n a τ
/-- what a reader of values leaves -/
def VPost (kx X n : Nat) (B : Nat → Nat) (h m o a R1 R2 : Nat) (τ : CS) (r : (Nat ⊕ Nat) × CS) : Prop := PF X τ r.2 ∧
  ((∃ k q, r.1 = .inr (X + 29) ∧ FLT r.2.2 X k q ∧ Parse B n kx m o a [] (.inl (k, q)) ∧ CST R1 R2 τ r.2 (n + 2 - a)) ∨
   (∃ e cs a', r.1 = .inl e ∧ Parse B n kx m o a [] (.inr (cs, a')) ∧ PI r.2 X n B a' o ∧ VAL kx X h (gz τ.1) (gz r.2.1) r.2.1 r.2.2 e cs ∧ a < a' ∧ CST R1 R2 τ r.2 (a' - a)))
def SubV (kx X n : Nat) (B : Nat → Nat) (h m o R1 R2 : Nat) (f : Nat → CS → Option ((Nat ⊕ Nat) × CS)) : Prop := ∀ τ a, PRE kx X n B o R1 R2 τ a → OK (f (X + 28) τ) (VPost kx X n B h m o a R1 R2 τ)
/-- the loop over signs -/
def chB (sub : Nat → CS → Option ((Nat ⊕ Nat) × CS)) (c1 c2 : Int32) (x0 : Nat) (x1 : Nat) (x2 : Int32) (τ : CS) : Option ((Int32 × CS) ⊕ ((CS) ⊕ (((Nat ⊕ Nat) × CS)))) :=
  if x2 = 0 then
  some (.inr (.inl τ))
  else
  if gT τ.1 x0 = 3 then
  xbd (f_c_X2_takes τ.1 x0 c1 τ.2) fun r8 τ8 =>
  if r8 = 0 then
  xbd (f_c_X2_takes τ.1 x0 c2 τ8) fun r9 τ9 =>
  if r9 = 0 then
  some (.inl (0, (τ.1, τ9)))
  else
  xbx (sub x0 (τ.1, τ9)) (fun r10 τ10 =>
  if gT τ10.1 x1 = 8 then
  (f_a_X9_add x1 c2 r10 τ10).bind fun τ12 =>
  some (.inl (x2, τ12))
  else none) (fun q13 τ13 => some (.inr (.inr (.inr q13, τ13))))
  else
  xbx (sub x0 (τ.1, τ8)) (fun r14 τ14 =>
  if gT τ14.1 x1 = 8 then
  (f_a_X9_add x1 c1 r14 τ14).bind fun τ16 =>
  some (.inl (x2, τ16))
  else none) (fun q17 τ17 => some (.inr (.inr (.inr q17, τ17))))
  else none
def chW (sub : Nat → CS → Option ((Nat ⊕ Nat) × CS)) (c1 c2 : Int32) (x0 : Nat) (τ : CS) : Option ((Nat ⊕ Nat) × CS) :=
  xbd (aNew 8 τ) fun r1 τ1 =>
  (f_a_X9_init r1 τ1).bind fun τ2 =>
  if gT τ2.1 x0 = 3 then
  xbx (sub x0 τ2) (fun r4 τ4 =>
  if gT τ4.1 r1 = 8 then
  (f_a_X9_add r1 c1 r4 τ4).bind fun τ6 =>
  (itr (fun s_ : Int32 × CS => chB sub c1 c2 x0 r1 s_.1 s_.2) 4096 (1, τ6)).bind fun b18 =>
  (Sum.elim (fun e19 => some ((.inl r1, e19))) (fun r_ => some r_)) b18
  else none) (fun q20 τ20 => some ((.inr q20, τ20)))
  else none
theorem product_ch {su ra : Nat → CS → Option ((Nat ⊕ Nat) × CS)} {x0 : Nat} {τ : CS} : f_x_X2_product su ra x0 τ = chW (f_x_X2_atom su ra) 42 47 x0 τ := rfl
theorem sum_ch {su ra : Nat → CS → Option ((Nat ⊕ Nat) × CS)} {x0 : Nat} {τ : CS} : f_x_X2_sum su ra x0 τ = chW (f_x_X2_product su ra) 43 45 x0 τ := rfl
/-- nothing below lo has moved but the reader's place, its fault -/
def PL (lo X : Nat) (τ τ' : CS) : Prop := gz τ.1 ≤ gz τ'.1 ∧ AgG 0 lo τ.1 τ'.1 ∧ (∀ a, a < lo → a ≠ X + 28 → a ≠ X + 29 → Eq1 τ.2 τ'.2 a) ∧ (∀ k, k ≠ 302 → k ≠ 303 → k ≠ 304 → cI τ'.2 k (X + 28) = cI τ.2 k (X + 28)) ∧ (∀ k, cR τ'.2 k (X + 28) = cR τ.2 k (X + 28))
theorem PL.refl {lo X : Nat} {τ : CS} : PL lo X τ τ := ⟨Nat.le_refl _, AgG.refl _ _ _, fun a _ _ _ => Eq1.refl _ a, fun _ _ _ _ => rfl, fun _ => rfl⟩
theorem PL.trans {lo X : Nat} {τ τ' τ'' : CS} (h : PL lo X τ τ') (h' : PL lo X τ' τ'') : PL lo X τ τ'' := ⟨Nat.le_trans h.1 h'.1, h.2.1.trans h'.2.1, fun a a1 a2 a3 => (h.2.2.1 a a1 a2 a3).trans (h'.2.2.1 a a1 a2 a3), fun k k1 k2 k3 => (h'.2.2.2.1 k k1 k2 k3).trans (h.2.2.2.1 k k1 k2 k3), fun k => (h'.2.2.2.2 k).trans (h.2.2.2.2 k)⟩
theorem PF.pl {lo X : Nat} {τ τ' : CS} (h : PF X τ τ') (hl : lo ≤ gz τ.1) : PL lo X τ τ' := ⟨h.1, fun a a0 a1 => h.2.1 a a0 (by omega), fun a a1 a2 a3 => h.2.2.1 a (by omega) a2 a3, h.2.2.2.1, h.2.2.2.2⟩
theorem STz.pl {lo X : Nat} {τ τ' : CS} (h : STz lo τ τ') (hl : X + 30 ≤ lo) : PL lo X τ τ' := ⟨h.1, h.2.1, fun a a1 _ _ => h.2.2 a a1, fun k _ _ _ => (h.2.2 (X + 28) (by omega)).1 k, fun k => (h.2.2 (X + 28) (by omega)).2.2.1 k⟩
theorem PF.tl {lo X : Nat} {τ τ' τ'' : CS} (h : PF X τ τ') (h' : PL lo X τ' τ'') (hl : gz τ.1 ≤ lo) : PF X τ τ'' := (h.pl (Nat.le_refl _)).trans ⟨h'.1, fun a a0 a1 => h'.2.1 a a0 (by omega), fun a a1 a2 a3 => h'.2.2.1 a (by omega) a2 a3, h'.2.2.2.1, h'.2.2.2.2⟩
theorem PL.c305 {lo X v : Nat} {τ τ' : CS} (h : PL lo X τ τ') (e : cI τ.2 305 (X + 28) = nI v) : cI τ'.2 305 (X + 28) = nI v := by rw [h.2.2.2.1 305 (by omega) (by omega) (by omega)]; exact e
section ZZE1
variable {kx X n h m mr o r1 r2 lo e : Nat} {B : Nat → Nat} {sub : Nat → CS → Option ((Nat ⊕ Nat) × CS)} {x y : Nat}
/-- behind a sign: one part more -/
theorem ch_one {hi a s arr ba k c : Nat} {acc : List Nat} {τ τ1 : CS} (hsub : SubV kx X n B h m o (r1 + 10) (r2 + 100) sub) (h1 : PI τ1 X n B (s + 1) o) (hcx : cI τ1.2 305 (X + 28) = nI (ctx kx)) (hp : PF X τ τ1) (hg1 : τ1.1 = τ.1)
    (hC : CHn kx X h lo hi τ.1 τ.2 e arr ba k acc) (hhi : hi ≤ gz τ.1) (hlh : lo ≤ hi) (hlo : X + 1671 ≤ lo) (hk0 : 0 < k) (hka : 2 * k ≤ a + 1) (has : a ≤ s) (hsn : s < n) (hn : n ≤ 1600) (hcs : sgOk c)
    (hr1 : 40 * (n + 2 - a) ≤ grc τ.1) (hr2 : 400 * (n + 2 - a) + 2 * n + 10 + 100 * k ≤ grs τ.1 + 4 * gN τ.1 arr + 2 * gN τ.1 ba) :
    OK (sub (X + 28) τ1) (fun r => (∃ k q, r.1 = .inr (X + 29) ∧ FLT r.2.2 X k q ∧ Parse B n kx m o (s + 1) [] (.inl (k, q)) ∧ PL lo X τ r.2 ∧ grc τ.1 ≤ grc r.2.1 + 40 * (n + 2 - a) ∧ grs τ.1 + r2 + 100 ≤ grs r.2.1 + 400 * (n + 2 - a)) ∨
      (∃ e2 cs a', r.1 = .inl e2 ∧ Parse B n kx m o (s + 1) [] (.inr (cs, a')) ∧ s + 1 < a' ∧ gT r.2.1 e = 8 ∧ OK (f_a_X9_add e (nI c) e2 r.2) (fun τ' => ∃ arr' ba', CHn kx X h lo (gz τ'.1) τ'.1 τ'.2 e arr' ba' (k + 1) (acc ++ cs ++ [sgC c]) ∧ PI τ' X n B a' o ∧ PL lo X τ τ' ∧ lo ≤ gz τ'.1 ∧ grc τ.1 ≤ grc τ'.1 + 40 * (a' - a) ∧ grs τ.1 + 4 * gN τ.1 arr + 2 * gN τ.1 ba + 100 ≤ grs τ'.1 + 4 * gN τ'.1 arr' + 2 * gN τ'.1 ba' + 400 * (a' - a)))) := by
  obtain ⟨cap1, cap2, ce⟩ := hC.cap
  obtain ⟨⟨rr, τ2⟩, e2, p2, hh⟩ := hsub τ1 (s + 1) ⟨h1, hcx, by rw [hg1]; omega, by rw [hg1]; omega⟩
  refine ⟨_, e2, ?_⟩
  have p02 : PF X τ τ2 := hp.trans p2
  rcases hh with ⟨k', q', f1, f2, f3, f4, f5⟩ | ⟨ev, cs, a', f1, f2, f3, f4, f5, f6, f7⟩
  · refine Or.inl ⟨k', q', f1, f2, f3, p02.pl (by omega), ?_, ?_⟩
    · rw [hg1] at f4; dsimp only at f4 ⊢; omega
    · rw [hg1] at f5; dsimp only at f5 ⊢; omega
  · rw [hg1] at f6 f7
    dsimp only at f6 f7 p2 p02 f3 f4
    have hgz : gz τ.1 ≤ gz τ2.1 := p02.1
    obtain ⟨ag1, ag2⟩ := p02.ag (lo := lo) (hi := hi) (by omega) hhi
    have hC2 := hC.of ag1 ag2
    have hba := f3.1.2.2.1.2.2.2.2
    have gNa : gN τ2.1 arr = gN τ.1 arr ∧ gN τ2.1 ba = gN τ.1 ba := by
      obtain ⟨l, s', ad, sg, -, b1, b2, b3, b4, b5, -⟩ := hC
      exact ⟨(ag1 arr b3.1 b3.2).2.1, (ag1 ba b5.1 b5.2).2.1⟩
    refine Or.inr ⟨ev, cs, a', f1, f2, by omega, hC2.cap.2.2, ?_⟩
    have z0 : gz τ1.1 = gz τ.1 := by rw [hg1]
    obtain ⟨τ', e3, arr', ba', g1, g2, g3, g4, g5⟩ := CHn.add (y := c) (acc' := acc ++ cs ++ [sgC c]) hC2 f4 (by omega) (Nat.le_refl _) hlh hcs (by omega) (by omega) (by omega) (fun q => by omega) (fun _ => rfl)
    have hX := h1.1.2.1
    exact ⟨τ', e3, arr', ba', g1, f3.st g2 hlo, (p02.pl (by omega)).trans (g2.pl (by omega)), by have := g2.1; omega, by omega, by omega⟩
/-- what the loop leaves -/
def LPost (kx X n : Nat) (B : Nat → Nat) (h mr o lo e r2 a k : Nat) (acc : List Nat) (arr ba : Nat) (τ : CS) (w : CS ⊕ ((Nat ⊕ Nat) × CS)) : Prop :=
      (∃ kf q τ', w = .inr (.inr (X + 29), τ') ∧ FLT τ'.2 X kf q ∧ Parse B n kx mr o a acc (.inl (kf, q)) ∧ PL lo X τ τ' ∧ grc τ.1 ≤ grc τ'.1 + 40 * (n + 2 - a) ∧ grs τ.1 + r2 + 60 + 4 * gN τ.1 arr + 2 * gN τ.1 ba ≤ grs τ'.1 + 12 * k + 400 * (n + 2 - a)) ∨
      (∃ cs a' τ' k' arr' ba' hi', w = .inl τ' ∧ Parse B n kx mr o a acc (.inr (cs, a')) ∧ PI τ' X n B a' o ∧ CHn kx X h lo hi' τ'.1 τ'.2 e arr' ba' k' cs ∧ hi' ≤ gz τ'.1 ∧ k ≤ k' ∧ 2 * k' ≤ a' + 1 ∧ a ≤ a' ∧ PL lo X τ τ' ∧ grc τ.1 ≤ grc τ'.1 + 40 * (a' - a) ∧ grs τ.1 + 4 * gN τ.1 arr + 2 * gN τ.1 ba + 100 * k' ≤ grs τ'.1 + 4 * gN τ'.1 arr' + 2 * gN τ'.1 ba' + 100 * k + 400 * (a' - a))
theorem ch_turn {a k arr ba hi f : Nat} {acc : List Nat} {τ : CS} (hsub : SubV kx X n B h m o (r1 + 10) (r2 + 100) sub) (hx : sgOk x) (hy : sgOk y) (hn : n ≤ 1600) (hlo : X + 1671 ≤ lo)
    (hstep : ∀ a acc r, (cur B n (sk B n a) = x ∨ cur B n (sk B n a) = y) → gon (Parse B n kx) m o (sk B n a + 1) r (fun cs p1 => Parse B n kx mr o p1 (acc ++ cs ++ [sgC (cur B n (sk B n a))]) r) → Parse B n kx mr o a acc r)
    (hend : ∀ a acc, cur B n (sk B n a) ≠ x → cur B n (sk B n a) ≠ y → Parse B n kx mr o a acc (.inr (acc, sk B n a)))
    (hP : PI τ X n B a o) (hcx : cI τ.2 305 (X + 28) = nI (ctx kx)) (hC : CHn kx X h lo hi τ.1 τ.2 e arr ba k acc) (hhi : hi ≤ gz τ.1) (hlh : lo ≤ hi) (hk0 : 0 < k) (hka : 2 * k ≤ a + 1) (hr1 : 40 * (n + 2 - a) ≤ grc τ.1) (hr2 : 400 * (n + 2 - a) + 2 * n + 10 + 100 * k ≤ grs τ.1 + 4 * gN τ.1 arr + 2 * gN τ.1 ba) (hf : 1 < f)
    (ih : ∀ a' τ' k' acc' arr' ba' hi', a < a' ∧ a' ≤ n → PI τ' X n B a' o → cI τ'.2 305 (X + 28) = nI (ctx kx) → CHn kx X h lo hi' τ'.1 τ'.2 e arr' ba' k' acc' → hi' ≤ gz τ'.1 → lo ≤ hi' → 0 < k' → 2 * k' ≤ a' + 1 → 40 * (n + 2 - a') ≤ grc τ'.1 → 400 * (n + 2 - a') + 2 * n + 10 + 100 * k' ≤ grs τ'.1 + 4 * gN τ'.1 arr' + 2 * gN τ'.1 ba' → ∀ f', f = f' + 1 → OK (itr (fun s_ : Int32 × CS => chB sub (nI x) (nI y) (X + 28) e s_.1 s_.2) f' (1, τ')) (LPost kx X n B h mr o lo e r2 a' k' acc' arr' ba' τ')) :
    OK (itr (fun s_ : Int32 × CS => chB sub (nI x) (nI y) (X + 28) e s_.1 s_.2) f (1, τ)) (LPost kx X n B h mr o lo e r2 a k acc arr ba τ) := by
  obtain ⟨f0, rfl⟩ : ∃ f0, f = f0 + 1 := ⟨f - 1, by omega⟩
  have hr := hP.1.2.2.1
  have ha := hr.2.2.2.2
  have g := sk_g (B := B) ha
  have hi2 := sk_i (B := B) ha
  have hX := hP.1.2.1
  obtain ⟨cap1, cap2, ce⟩ := hC.cap
  have t3 : gT τ.1 (X + 28) = 3 := hP.1.1.2.2.1
  have x256 : ∀ {v}, sgOk v → v < 256 := fun hv => by rcases hv with q | q | q | q <;> omega
  have tk := C_takesS hP.1.1 hr (x256 hx)
  have piS : PI (τ.1, uI τ.2 302 (X + 28) (nI (sk B n a))) X n B (sk B n a) o := hP.pf PF.at2 (hP.1.at2 g.2.1)
  have tk2 := C_takesS piS.1.1 piS.1.2.2.1 (x256 hy)
  dsimp only at tk2
  rw [hi2] at tk2
  -- behind a sign
  have more : ∀ c, sgOk c → cur B n (sk B n a) = c → (c = x ∨ c = y) → chB sub (nI x) (nI y) (X + 28) e 1 τ = xbx (sub (X + 28) (τ.1, uI τ.2 302 (X + 28) (nI (sk B n a + 1)))) (fun r10 τ10 => if gT τ10.1 e = 8 then (f_a_X9_add e (nI c) r10 τ10).bind fun τ12 => some (.inl (1, τ12)) else none) (fun q13 τ13 => some (.inr (.inr (.inr q13, τ13)))) → OK (itr (fun s_ : Int32 × CS => chB sub (nI x) (nI y) (X + 28) e s_.1 s_.2) (f0 + 1) (1, τ)) (LPost kx X n B h mr o lo e r2 a k acc arr ba τ) := by
    intro c hc hcc hxy hb
    have hlt := cur_lt hcc (x256 hc)
    have pi1 : PI (τ.1, uI τ.2 302 (X + 28) (nI (sk B n a + 1))) X n B (sk B n a + 1) o := hP.pf PF.at2 (hP.1.at2 (by omega))
    have cx1 : cI (uI τ.2 302 (X + 28) (nI (sk B n a + 1))) 305 (X + 28) = nI (ctx kx) := by rw [cI_uI, if_neg (by omega)]; exact hcx
    have hst := fun acc r => hstep a acc r (by rw [hcc]; exact hxy)
    rw [hcc] at hst
    obtain ⟨⟨rr, τ2⟩, e2, hh⟩ := ch_one (c := c) hsub pi1 cx1 PF.at2 rfl hC hhi hlh hlo hk0 hka g.1 hlt.1 hn hc hr1 hr2
    rcases hh with ⟨kf, q, u1, u2, u3, u4, u5, u6⟩ | ⟨ev, cs, a', u1, u2, u3, u4, τ', e3, arr', ba', w1, w2, w3, w4, w5, w6⟩
    · have u1 : rr = .inr (X + 29) := u1
      subst u1
      rw [e2] at hb
      refine ⟨_, itr_inr hb, Or.inl ⟨kf, q, τ2, rfl, u2, hst acc _ (Or.inl ⟨_, u3, rfl⟩), u4, u5, ?_⟩⟩
      dsimp only at u6 ⊢
      omega
    · have u1 : rr = .inl ev := u1
      subst u1
      have ha' := w2.1.2.2.1.2.2.2.2
      rw [e2] at hb
      have hb : chB sub (nI x) (nI y) (X + 28) e 1 τ = some (.inl (1, τ')) := by
        rw [hb]
        show (if gT τ2.1 e = 8 then _ else _) = _
        rw [if_pos u4, e3, Option.bind_some]
      obtain ⟨w, ew, hw⟩ := ih a' τ' (k + 1) _ arr' ba' (gz τ'.1) ⟨by omega, ha'⟩ w2 (w3.c305 hcx) w1 (Nat.le_refl _) w4 (by omega) (by omega) (by omega) (by omega) f0 rfl
      refine ⟨w, by rw [itr_inl (a' := (1, τ')) hb]; exact ew, ?_⟩
      rcases hw with ⟨kf, q, τ3, v1, v2, v3, v4, v5, v6⟩ | ⟨cs2, a2, τ3, k2, arr2, ba2, hi3, v1, v2, v3, v4, v5, v6, v7, v8, v9, v10, v11⟩
      · exact Or.inl ⟨kf, q, τ3, v1, v2, hst acc _ (Or.inr ⟨cs, a', u2, v3⟩), w3.trans v4, by omega, by omega⟩
      · exact Or.inr ⟨cs2, a2, τ3, k2, arr2, ba2, hi3, v1, hst acc _ (Or.inr ⟨cs, a', u2, v2⟩), v3, v4, v5, by omega, v7, by omega, w3.trans v9, by omega, by omega⟩
  by_cases cx : cur B n (sk B n a) = x
  · refine more x hx cx (Or.inl rfl) ?_
    unfold chB
    rw [if_neg (by decide), if_pos t3, tk, if_pos cx, xbd_some, if_neg (by decide)]
  · by_cases cy : cur B n (sk B n a) = y
    · refine more y hy cy (Or.inr rfl) ?_
      unfold chB
      rw [if_neg (by decide), if_pos t3, tk, if_neg cx, xbd_some, if_pos rfl, tk2, if_pos cy, xbd_some, if_neg (by decide), uI_uI]
    · have hb : chB sub (nI x) (nI y) (X + 28) e 1 τ = some (.inl (0, (τ.1, uI τ.2 302 (X + 28) (nI (sk B n a))))) := by
        unfold chB
        rw [if_neg (by decide), if_pos t3, tk, if_neg cx, xbd_some, if_pos rfl, tk2, if_neg cy, xbd_some, if_pos rfl, uI_uI]
      obtain ⟨f1, rfl⟩ : ∃ f1, f0 = f1 + 1 := ⟨f0 - 1, by omega⟩
      have pf0 : PF X τ (τ.1, uI τ.2 302 (X + 28) (nI (sk B n a))) := PF.at2
      obtain ⟨ag1, ag2⟩ := pf0.ag (lo := lo) (hi := hi) (by omega) hhi
      refine ⟨.inl (τ.1, uI τ.2 302 (X + 28) (nI (sk B n a))), ?_, Or.inr ⟨acc, sk B n a, _, k, arr, ba, hi, rfl, hend a acc cx cy, piS, hC.of ag1 ag2, hhi, Nat.le_refl _, by omega, g.1, pf0.pl (by omega), by show grc τ.1 ≤ grc τ.1 + _; omega, by show grs τ.1 + 4 * gN τ.1 arr + 2 * gN τ.1 ba + 100 * k ≤ grs τ.1 + 4 * gN τ.1 arr + 2 * gN τ.1 ba + 100 * k + _; omega⟩⟩
      rw [itr_inl (a' := (0, _)) hb]
      refine itr_inr ?_
      show chB sub (nI x) (nI y) (X + 28) e 0 _ = _
      unfold chB
      rw [if_pos rfl]
theorem ch_loop (hsub : SubV kx X n B h m o (r1 + 10) (r2 + 100) sub) (hx : sgOk x) (hy : sgOk y) (hn : n ≤ 1600) (hlo : X + 1671 ≤ lo)
    (hstep : ∀ a acc r, (cur B n (sk B n a) = x ∨ cur B n (sk B n a) = y) → gon (Parse B n kx) m o (sk B n a + 1) r (fun cs p1 => Parse B n kx mr o p1 (acc ++ cs ++ [sgC (cur B n (sk B n a))]) r) → Parse B n kx mr o a acc r)
    (hend : ∀ a acc, cur B n (sk B n a) ≠ x → cur B n (sk B n a) ≠ y → Parse B n kx mr o a acc (.inr (acc, sk B n a))) :
    ∀ d a τ k acc arr ba hi, n - a ≤ d → PI τ X n B a o → cI τ.2 305 (X + 28) = nI (ctx kx) → CHn kx X h lo hi τ.1 τ.2 e arr ba k acc → hi ≤ gz τ.1 → lo ≤ hi → 0 < k → 2 * k ≤ a + 1 → 40 * (n + 2 - a) ≤ grc τ.1 → 400 * (n + 2 - a) + 2 * n + 10 + 100 * k ≤ grs τ.1 + 4 * gN τ.1 arr + 2 * gN τ.1 ba → ∀ f, d + 1 < f →
    OK (itr (fun s_ : Int32 × CS => chB sub (nI x) (nI y) (X + 28) e s_.1 s_.2) f (1, τ)) (LPost kx X n B h mr o lo e r2 a k acc arr ba τ) := by
  intro d
  induction d with
  | zero =>
    intro a τ k acc arr ba hi hd hP hcx hC hhi hlh hk0 hka hr1 hr2 f hf
    exact ch_turn hsub hx hy hn hlo hstep hend hP hcx hC hhi hlh hk0 hka hr1 hr2 hf (fun a' τ' k' acc' arr' ba' hi' q => absurd q (by have := hP.1.2.2.1.2.2.2.2; omega))
  | succ d ih =>
    intro a τ k acc arr ba hi hd hP hcx hC hhi hlh hk0 hka hr1 hr2 f hf
    exact ch_turn hsub hx hy hn hlo hstep hend hP hcx hC hhi hlh hk0 hka hr1 hr2 (by omega) (fun a' τ' k' acc' arr' ba' hi' q q1 q2 q3 q4 q5 q6 q7 q8 q9 f' q10 => ih a' τ' k' acc' arr' ba' hi' (by omega) q1 q2 q3 q4 q5 q6 q7 q8 q9 f' (by omega))
/-- a whole row -/
theorem chn_all {mw : Nat} (hq1 : r1 ≤ 20) (hq2 : r2 ≤ 200) (hsub : SubV kx X n B h m o (r1 + 10) (r2 + 100) sub) (hx : sgOk x) (hy : sgOk y)
    (hstep : ∀ a acc r, (cur B n (sk B n a) = x ∨ cur B n (sk B n a) = y) → gon (Parse B n kx) m o (sk B n a + 1) r (fun cs p1 => Parse B n kx mr o p1 (acc ++ cs ++ [sgC (cur B n (sk B n a))]) r) → Parse B n kx mr o a acc r)
    (hend : ∀ a acc, cur B n (sk B n a) ≠ x → cur B n (sk B n a) ≠ y → Parse B n kx mr o a acc (.inr (acc, sk B n a)))
    (hfirst : ∀ a r, gon (Parse B n kx) m o a r (fun cs p1 => Parse B n kx mr o p1 cs r) → Parse B n kx mw o a [] r) : SubV kx X n B (h + 1) mw o r1 r2 (chW sub (nI x) (nI y)) := by
  intro τ a hpre
  obtain ⟨hP, hcx, hm1, hm2⟩ := hpre
  have hr := hP.1.2.2.1
  have ha := hr.2.2.2.2
  have hn := hr.2.1
  have hX := hP.1.2.1
  have hroom : 5 ≤ grc τ.1 ∧ 27 ≤ grs τ.1 := by omega
  · obtain ⟨τ1, τ2, e1, e2, hI, hz2, st2, gc2, gs2, n2, n4⟩ := C_chNew hroom.1 hroom.2
    generalize hz : gz τ.1 = z at *
    have pf2 : PF X τ τ2 := PF.st PF.refl st2 (by omega) (by omega)
    have pi2 : PI τ2 X n B a o := hP.st st2 hX
    have cx2 : cI τ2.2 305 (X + 28) = nI (ctx kx) := by rw [(st2.2.2 (X + 28) (by omega)).1]; exact hcx
    have t3 : gT τ2.1 (X + 28) = 3 := pi2.1.1.2.2.1
    obtain ⟨⟨rr, τ4⟩, e4, p4, hh⟩ := hsub τ2 a ⟨pi2, cx2, by omega, by omega⟩
    dsimp only at p4 hh
    unfold chW
    rw [e1, xbd_some, e2, Option.bind_some, if_pos t3, e4]
    have pf4 : PF X τ τ4 := pf2.trans p4
    rcases hh with ⟨kf, q, u1, u2, u3, u4, u5⟩ | ⟨ev, cs, a1, u1, u2, u3, u4, u5, u6, u7⟩
    · subst u1
      exact OK_some ⟨pf4, Or.inl ⟨kf, q, rfl, u2, hfirst a _ (Or.inl ⟨_, u3, rfl⟩), by dsimp only; omega, by dsimp only; omega⟩⟩
    · subst u1
      have ha1 := u3.1.2.2.1.2.2.2.2
      have hC0 : CHn kx X h z (z + 5) τ2.1 τ2.2 z (z + 2) (z + 4) 0 [] := ⟨z + 1, z + 3, _, _, hI, by omega, by omega, by omega, by omega, by omega, fun i _ hi => absurd hi (Nat.not_lt_zero i), fun q => absurd q (Nat.lt_irrefl 0), fun _ => 0, fun _ => 0, fun _ _ _ => 0, fun i hi => absurd hi (Nat.not_lt_zero i), fun i env lk _ _ => (show bdd (0 : Int64) by unfold bdd; decide), fun q => absurd q (Nat.lt_irrefl 0)⟩
      obtain ⟨ag1, ag2⟩ := p4.ag (lo := z) (hi := z + 5) (by omega) (by omega)
      have hC4 := hC0.of ag1 ag2
      have hgz4 := p4.1
      have k1 : gN τ4.1 (z + 2) = 2 := by rw [(ag1 (z + 2) (by omega) (by omega)).2.1]; exact n2
      have k2 : gN τ4.1 (z + 4) = 16 := by rw [(ag1 (z + 4) (by omega) (by omega)).2.1]; exact n4
      obtain ⟨τ6, e6, arr6, ba6, hC6, st6, ag6, gc6, gs6⟩ := CHn.add (y := x) (acc' := cs) hC4 u4 (by omega) (Nat.le_refl _) (by omega) hx (by omega) (by omega) (by omega) (fun _ => rfl) (fun q => absurd q (Nat.lt_irrefl 0))
      have pi6 : PI τ6 X n B a1 o := u3.st st6 hX
      have cx6 : cI τ6.2 305 (X + 28) = nI (ctx kx) := by rw [(st6.2.2 (X + 28) (by omega)).1, p4.2.2.2.1 305 (by omega) (by omega) (by omega)]; exact cx2
      have pf6 : PF X τ τ6 := pf4.st st6 (by omega) (by omega)
      have hgz6 := st6.1
      show OK (if gT τ4.1 z = 8 then (f_a_X9_add z (nI x) ev τ4).bind fun τ6 => _ else none) _
      rw [if_pos hC4.cap.2.2, e6, Option.bind_some]
      obtain ⟨w, ew, hw⟩ := ch_loop (e := z) (lo := z) hsub hx hy hn hX hstep hend (n - a1) a1 τ6 1 cs arr6 ba6 (gz τ6.1) (Nat.le_refl _) pi6 cx6 hC6 (Nat.le_refl _) (by omega) (by omega) (by omega) (by omega) (by omega) 4096 (by omega)
      rw [ew, Option.bind_some]
      rcases hw with ⟨kf, q, τ3, v1, v2, v3, v4, v5, v6⟩ | ⟨cs2, a2, τ3, k2', arr2, ba2, hi3, v1, v2, v3, v4, v5, v6, v7, v8, v9, v10, v11⟩
      · subst v1
        exact OK_some ⟨pf6.tl v4 (by omega), Or.inl ⟨kf, q, rfl, v2, hfirst a _ (Or.inr ⟨cs, a1, u2, v3⟩), by dsimp only; omega, by dsimp only; omega⟩⟩
      · subst v1
        obtain ⟨cap1, cap2, -⟩ := v4.cap
        have ha2 := v3.1.2.2.1.2.2.2.2
        refine OK_some ⟨pf6.tl v9 (by omega), Or.inr ⟨z, cs2, a2, rfl, hfirst a _ (Or.inr ⟨cs, a1, u2, v2⟩), v3, (v4.val (by omega) (by omega)).up (Nat.le_refl _) (by omega) v5, by omega, by dsimp only; omega, by dsimp only; omega⟩⟩
end ZZE1
