/-! PLAIN LAW: reading: the component's signs, numbers -/
set_option maxRecDepth 100000
/-- only the reader's place and its fault have moved -/
def PR (X : Nat) (c c' : CC) : Prop := (∀ a, a ≠ X + 28 → a ≠ X + 29 → Eq1 c c' a) ∧ (∀ k, k ≠ 302 → k ≠ 303 → k ≠ 304 → cI c' k (X + 28) = cI c k (X + 28)) ∧ (∀ k, cR c' k (X + 28) = cR c k (X + 28))
def FLT (c : CC) (X k p : Nat) : Prop := cI c 406 (X + 29) = nI k ∧ cI c 407 (X + 29) = nI p
section ZZA
variable {g : CG} {c c' c'' : CC} {X n m : Nat} {B : Nat → Nat}
theorem PR.refl : PR X c c := ⟨fun a _ _ => Eq1.refl c a, fun _ _ _ _ => rfl, fun _ => rfl⟩
theorem PR.trans (h : PR X c c') (h' : PR X c' c'') : PR X c c'' := ⟨fun a a1 a2 => (h.1 a a1 a2).trans (h'.1 a a1 a2), fun k k1 k2 k3 => (h'.2.1 k k1 k2 k3).trans (h.2.1 k k1 k2 k3), fun k => (h'.2.2 k).trans (h.2.2 k)⟩
theorem PR.u302 {x : Int32} (h : PR X c c') : PR X c (uI c' 302 (X + 28) x) := ⟨fun a a1 a2 => (h.1 a a1 a2).uI a1, fun k k1 k2 k3 => by rw [cI_uI, if_neg (by omega)]; exact h.2.1 k k1 k2 k3, h.2.2⟩
theorem PR.u303 {x : Int32} (h : PR X c c') : PR X c (uI c' 303 (X + 28) x) := ⟨fun a a1 a2 => (h.1 a a1 a2).uI a1, fun k k1 k2 k3 => by rw [cI_uI, if_neg (by omega)]; exact h.2.1 k k1 k2 k3, h.2.2⟩
theorem PR.u304 {x : Int32} (h : PR X c c') : PR X c (uI c' 304 (X + 28) x) := ⟨fun a a1 a2 => (h.1 a a1 a2).uI a1, fun k k1 k2 k3 => by rw [cI_uI, if_neg (by omega)]; exact h.2.1 k k1 k2 k3, h.2.2⟩
theorem PR.u29 {k : Nat} {x : Int32} (h : PR X c c') : PR X c (uI c' k (X + 29) x) := ⟨fun a a1 a2 => (h.1 a a1 a2).uI a2, fun j k1 k2 k3 => by rw [cI_uI, if_neg (by omega)]; exact h.2.1 j k1 k2 k3, h.2.2⟩
theorem C_wrong {k p : Int32} (hg : RDG g X) : f_c_X2_wrong g (X + 28) k p c = some (X + 29, uI (uI c 406 (X + 29) k) 407 (X + 29) p) := by
  unfold f_c_X2_wrong
  rw [if_pos hg.2.2.1, hg.2.2.2.1, Option.bind_some, if_pos hg.2.2.2.2.1]
theorem FLT.mk {k p : Nat} : FLT (uI (uI c 406 (X + 29) (nI k)) 407 (X + 29) (nI p)) X k p := ⟨by rw [cI_uI, if_neg (by omega), cI_uI, if_pos ⟨rfl, rfl⟩], by rw [cI_uI, if_pos ⟨rfl, rfl⟩]⟩
theorem RdC.cur_le {a p : Nat} (h : RdC c X n B a) : cur B n p ≤ 256 := by
  unfold cur
  have := h.2.1
  split
  · have := (h.1 p (by omega)).2; omega
  · omega
theorem RdC.u303 {a : Nat} {x : Int32} (h : RdC c X n B a) : RdC (uI c 303 (X + 28) x) X n B a := ⟨h.1.of ((Eq1.refl c _).uI (by omega)), h.2.1, by rw [cI_uI, if_neg (by omega)]; exact h.2.2.1, by rw [cI_uI, if_neg (by omega)]; exact h.2.2.2.1, h.2.2.2.2⟩
/-- whether a word or number is parted from what stands ahead -/
theorem C_parted {p : Nat} (hg : RDG g X) (h : RdC c X n B p) : f_x_X2_parted (X + 28) (g, c) = if alB B p = true then some (.inr (X + 29), (g, uI (uI c 406 (X + 29) 1) 407 (X + 29) (nI p))) else some (.inl (), (g, c)) := by
  have hn := h.2.1
  have hp := h.2.2.2.2
  have j32 : Jc_X2_parted_32 (X + 28) (g, c) = some (.inr (X + 29), (g, uI (uI c 406 (X + 29) 1) 407 (X + 29) (nI p))) := by
    unfold Jc_X2_parted_32
    dsimp only
    rw [if_pos hg.2.2.1, h.2.2.2.1, C_wrong hg, xbd_some, if_pos hg.2.2.2.2.1]
  obtain ⟨y, hy, hby, hal⟩ : ∃ y, y ≤ 256 ∧ f_c_X2_byteAt g (X + 28) (nI p - 1) c = some (chI y, c) ∧ alB B p = (ltB y || dgB y) := by
    by_cases e : p = 0
    · subst e
      refine ⟨256, by omega, ?_, by unfold alB; rfl⟩
      unfold f_c_X2_byteAt
      rw [if_pos (show nI 0 - 1 < 0 by decide)]; rfl
    · refine ⟨cur B n (p - 1), h.cur_le, ?_, ?_⟩
      · rw [nl_1, nI_m1 (by omega)]; exact C_rby hg h.1 hn h.2.2.1 (by omega)
      · unfold alB cur
        rw [decide_eq_true (show 0 < p by omega), if_pos (by omega), Bool.true_and]
  unfold f_x_X2_parted
  show (if gT g (X + 28) = 3 then _ else none) = _
  rw [if_pos hg.2.2.1]
  show (xbd (f_c_X2_byteAt g (X + 28) (cI c 302 (X + 28) - 1) c) fun r2 τ2 => _) = _
  rw [h.2.2.2.1, hby, xbd_some, C_isLetter hy, xbd_some, hal]
  cases hl : ltB y with
  | true => rw [if_neg (show ¬ b32 true = 0 by decide), Bool.true_or, if_pos rfl]; exact j32
  | false =>
    rw [if_pos (show b32 false = 0 by decide), h.2.2.2.1, hby, xbd_some, C_isDigit hy, xbd_some, Bool.false_or]
    cases hd : dgB y with
    | true => rw [if_neg (show ¬ b32 true = 0 by decide), if_pos rfl]; exact j32
    | false => rw [if_pos (show b32 false = 0 by decide), if_neg (by decide)]
/-- a sign must stand -/
theorem C_must {a x : Nat} (hg : RDG g X) (h : RdC c X n B a) (hx : x < 256) : f_x_X2_must (X + 28) (nI x) (g, c) = if cur B n (sk B n a) = x then some (.inl (), (g, uI c 302 (X + 28) (nI (sk B n a + 1)))) else some (.inr (X + 29), (g, uI (uI (uI c 302 (X + 28) (nI (sk B n a))) 406 (X + 29) 1) 407 (X + 29) (nI (sk B n a)))) := by
  have hc := h.cur_le (p := sk B n a)
  unfold f_x_X2_must
  show (if gT g (X + 28) = 3 then (xbd (f_c_X2_here g (X + 28) c) fun r2 τ2 => _) else none) = _
  rw [if_pos hg.2.2.1, C_here hg h, xbd_some, show cI (uI c 302 (X + 28) (nI (sk B n a))) 302 (X + 28) = nI (sk B n a) by rw [cI_uI, if_pos ⟨rfl, rfl⟩]]
  by_cases e : cur B n (sk B n a) = x
  · rw [if_pos ((ch_ne hc hx).mpr e), if_pos e, nl_1, nI_add, uI_uI]
  · rw [if_neg (fun z => e ((ch_ne hc hx).mp z)), if_neg e, C_wrong hg, xbd_some, if_pos hg.2.2.2.2.1]
theorem C_takesS {a x : Nat} (hg : RDG g X) (h : RdC c X n B a) (hx : x < 256) : f_c_X2_takes g (X + 28) (nI x) c = if cur B n (sk B n a) = x then some (1, uI c 302 (X + 28) (nI (sk B n a + 1))) else some (0, uI c 302 (X + 28) (nI (sk B n a))) := by
  have hc := h.cur_le (p := sk B n a)
  unfold f_c_X2_takes Jc_X2_takes_13 Jc_X2_takes_28
  rw [if_pos hg.2.2.1, C_here hg h, xbd_some]
  by_cases e : cur B n (sk B n a) = x
  · rw [if_pos ((ch_ne hc hx).mpr e), if_pos e, if_pos hg.2.2.1, if_neg (show ¬ (1 : Int32) = 0 by decide), if_pos hg.2.2.1, cI_uI, if_pos ⟨rfl, rfl⟩, nl_1, nI_add, uI_uI]; rfl
  · rw [if_neg (fun z => e ((ch_ne hc hx).mp z)), if_neg e, if_pos hg.2.2.1, if_pos rfl, if_pos hg.2.2.1, cI_uI, if_pos ⟨rfl, rfl⟩, nl_0, nI_add, uI_uI]; rfl
/-- digits are run through -/
theorem C_digits {x1 x2 : Int32} {p : Nat} (hg : RDG g X) (hp0 : p ≤ n) : ∀ d k c, p + k + d = n → k ≤ 4 → (∀ i, i < k → dgB (B (p + i)) = true) → RdC c X n B (p + k) → cI c 303 (X + 28) = nI p → ∀ f, d < f →
    (de B n p - p ≤ 4 ∧ itr (fun s_ : Int32 × CS => Bc_X2_number_34 (X + 28) x1 x2 s_.1 s_.2) f (nI (dv B p k), (g, c)) = some (.inl (nI (dv B p (de B n p - p)), (g, uI c 302 (X + 28) (nI (de B n p)))))) ∨ (4 < de B n p - p ∧ itr (fun s_ : Int32 × CS => Bc_X2_number_34 (X + 28) x1 x2 s_.1 s_.2) f (nI (dv B p k), (g, c)) = some (.inr (g, uI c 302 (X + 28) (nI (p + 4))))) := by
  have hde : ∀ k, p + k ≤ n → (∀ i, i < k → dgB (B (p + i)) = true) → de B n p = de B n (p + k) := by
    intro k
    induction k with
    | zero => intro _ _; rfl
    | succ k ih =>
      intro h1 h2
      rw [ih (by omega) (fun i hi => h2 i (by omega))]
      exact de_b (by omega) (h2 k (by omega))
  intro d
  induction d with
  | zero =>
    intro k c hd hk hgd hr h303 f hf
    obtain ⟨f', rfl⟩ : ∃ f', f = f' + 1 := ⟨f - 1, by omega⟩
    have hn := hr.2.1
    have e1 := hde k (by omega) hgd
    rw [show p + k = n by omega, de_n] at e1
    refine Or.inl ⟨by omega, ?_⟩
    rw [show de B n p - p = k by omega, show uI c 302 (X + 28) (nI (de B n p)) = c from uI_same (by rw [e1, hr.2.2.2.1]; congr 1)]
    refine itr_inr ?_
    show Bc_X2_number_34 (X + 28) x1 x2 (nI (dv B p k)) (g, c) = _
    unfold Bc_X2_number_34
    show (if gT g (X + 28) = 3 then (xbd (f_c_X2_byteAt g (X + 28) (cI c 302 (X + 28)) c) fun r9 τ9 => _) else none) = _
    rw [if_pos hg.2.2.1, hr.2.2.2.1, C_rby hg hr.1 hn hr.2.2.1 (by omega), xbd_some, show cur B n (p + k) = 256 by unfold cur; rw [if_neg (by omega)], C_isDigit (by omega), xbd_some, if_pos (show b32 (dgB 256) = 0 by decide)]
  | succ d ih =>
    intro k c hd hk hgd hr h303 f hf
    obtain ⟨f', rfl⟩ : ∃ f', f = f' + 1 := ⟨f - 1, by omega⟩
    have hn := hr.2.1
    have e1 := hde k (by omega) hgd
    have hb := (hr.1 (p + k) (by omega)).2
    have hdv := dv_4 hk hgd
    have ecu : cur B n (p + k) = B (p + k) := by unfold cur; rw [if_pos (by omega)]
    have ech : chI (B (p + k)) = nI (B (p + k)) := by unfold chI; rw [if_neg (by omega)]
    have hbody : Bc_X2_number_34 (X + 28) x1 x2 (nI (dv B p k)) (g, c) = if dgB (B (p + k)) = false then some (.inr (.inl (nI (dv B p k), (g, c)))) else if k = 4 then some (.inr (.inr (g, c))) else some (.inl (nI (dv B p (k + 1)), (g, uI c 302 (X + 28) (nI (p + (k + 1)))))) := by
      unfold Bc_X2_number_34
      show (if gT g (X + 28) = 3 then (xbd (f_c_X2_byteAt g (X + 28) (cI c 302 (X + 28)) c) fun r9 τ9 => _) else none) = _
      rw [if_pos hg.2.2.1, hr.2.2.2.1, C_rby hg hr.1 hn hr.2.2.1 (by omega), xbd_some, ecu, C_isDigit (by omega), xbd_some]
      cases hdg : dgB (B (p + k)) with
      | false => rw [if_pos (show b32 false = 0 by decide), if_pos rfl]
      | true =>
        have hx := dgB_b hdg
        rw [if_neg (show ¬ b32 true = 0 by decide), if_neg (show ¬ true = false by decide), hr.2.2.2.1, h303, pk_sub (by omega), show p + k - p = k by omega, nl_4, C_rby hg hr.1 hn hr.2.2.1 (by omega), xbd_some, ecu, ech, nl_10, pk_mul, nI_add, show (48 : Int32) = nI 48 from rfl, pk_sub (by omega), hr.2.2.2.1, nl_1, nI_add]
        by_cases e4 : k = 4
        · rw [if_pos (by rw [e4]), if_pos e4]
        · rw [if_neg (by rw [nI_eq (by omega) (by omega)]; exact e4), if_neg e4]
          have : 10 * dv B p k + B (p + k) - 48 = dv B p (k + 1) := by show _ = 10 * dv B p k + (B (p + k) - 48); omega
          rw [this, Nat.add_assoc]
    cases hdg : dgB (B (p + k)) with
    | false =>
      rw [hdg, if_pos rfl] at hbody
      have e2 := de_s (B := B) (n := n) (a := p + k) (by omega) hdg
      rw [e2] at e1
      refine Or.inl ⟨by omega, ?_⟩
      rw [show de B n p - p = k by omega, show uI c 302 (X + 28) (nI (de B n p)) = c from uI_same (by rw [e1, hr.2.2.2.1])]
      exact itr_inr hbody
    | true =>
      rw [hdg, if_neg (show ¬ true = false by decide)] at hbody
      by_cases e4 : k = 4
      · rw [if_pos e4] at hbody
        subst e4
        have e2 := de_b (B := B) (n := n) (a := p + 4) (by omega) hdg
        have e3 := (de_g (B := B) (n := n) (a := p + 4 + 1) (by omega)).1
        refine Or.inr ⟨by omega, ?_⟩
        rw [show uI c 302 (X + 28) (nI (p + 4)) = c from uI_same hr.2.2.2.1]
        exact itr_inr hbody
      · rw [if_neg e4] at hbody
        have r4 := ih (k + 1) (uI c 302 (X + 28) (nI (p + (k + 1)))) (by omega) (by omega) (fun i hi => by
          by_cases ei : i = k
          · rw [ei]; exact hdg
          · exact hgd i (by omega)) (hr.to (by omega)) (by rw [cI_uI, if_neg (by omega)]; exact h303) f' (by omega)
        rw [itr_inl (a' := (_, _)) hbody]
        rw [uI_uI, uI_uI] at r4
        exact r4
theorem C_number {a lo hi : Nat} (hg : RDG g X) (h : RdC c X n B a) (hlo : lo < 2147483648) (hhi : hi < 2147483648) : OK (f_x_X2_number (X + 28) (nI lo) (nI hi) (g, c)) (fun o => o.2.1 = g ∧ PR X c o.2.2 ∧ cI o.2.2 304 (X + 28) = cI c 304 (X + 28) ∧ match numR B n (sk B n a) lo hi with
    | .inl (k, p) => o.1 = .inr (X + 29) ∧ FLT o.2.2 X k p
    | .inr (v, e) => o.1 = .inl (nI v) ∧ RdC o.2.2 X n B e ∧ cI o.2.2 303 (X + 28) = nI (sk B n a)) := by
  have hn := h.2.1
  have ha := h.2.2.2.2
  have hs := (sk_g (B := B) ha).2.1
  have hr := h.to hs
  have hhere := C_here hg h
  generalize sk B n a = p at *
  have hc := h.cur_le (p := p)
  unfold f_x_X2_number numR
  show OK (if gT g (X + 28) = 3 then (xbd (f_c_X2_here g (X + 28) c) fun r2 τ2 => _) else none) _
  rw [if_pos hg.2.2.1, hhere, xbd_some, C_isDigit hc, xbd_some]
  have p1 : PR X c (uI c 302 (X + 28) (nI p)) := PR.refl.u302
  have k4 : ∀ {x : Int32}, cI (uI c 302 (X + 28) x) 304 (X + 28) = cI c 304 (X + 28) := fun {x} => by rw [cI_uI, if_neg (by omega)]
  cases hdg : dgB (cur B n p) with
  | false =>
    rw [if_pos (show b32 false = 0 by decide), hr.2.2.2.1, C_wrong hg, xbd_some, if_pos hg.2.2.2.2.1, if_pos (Or.inl rfl)]
    exact OK_some ⟨rfl, p1.u29.u29, by rw [cI_uI, if_neg (by omega), cI_uI, if_neg (by omega)]; exact k4, rfl, FLT.mk⟩
  | true =>
    rw [if_neg (show ¬ b32 true = 0 by decide)]
    show OK (xbx (f_x_X2_parted (X + 28) (g, uI c 302 (X + 28) (nI p))) _ _) _
    rw [C_parted hg hr]
    by_cases hal : alB B p = true
    · rw [if_pos hal, if_pos (Or.inr hal)]
      exact OK_some ⟨rfl, p1.u29.u29, by rw [cI_uI, if_neg (by omega), cI_uI, if_neg (by omega)]; exact k4, rfl, FLT.mk⟩
    · have hnot : ¬ (true = false ∨ alB B p = true) := fun z => z.elim (fun y => by cases y) hal
      rw [if_neg hal, if_neg hnot]
      have hd1 : p < n ∧ dgB (B p) = true := by
        unfold cur at hdg
        by_cases z : p < n
        · rw [if_pos z] at hdg; exact ⟨z, hdg⟩
        · rw [if_neg z] at hdg; exact absurd hdg (by decide)
      obtain ⟨g1, g2, g3, g4⟩ := de_g (B := B) (show p ≤ n by omega)
      have hr3 : RdC (uI (uI c 302 (X + 28) (nI p)) 303 (X + 28) (nI p)) X n B (p + 0) := hr.u303
      have r4 := C_digits (x1 := nI lo) (x2 := nI hi) (p := p) hg (by omega) (n - p) 0 _ (by omega) (by omega) (fun i hi => absurd hi (Nat.not_lt_zero i)) hr3 (by rw [cI_uI, if_pos ⟨rfl, rfl⟩]) 4096 (by omega)
      show OK (if gT g (X + 28) = 3 then ((itr (fun s_ : Int32 × CS => Bc_X2_number_34 (X + 28) (nI lo) (nI hi) s_.1 s_.2) 4096 (0, (g, uI (uI c 302 (X + 28) (nI p)) 303 (X + 28) (cI (uI c 302 (X + 28) (nI p)) 302 (X + 28))))).bind fun b12 => _) else none) _
      rw [if_pos hg.2.2.1, hr.2.2.2.1]
      have p3 : PR X c (uI (uI c 302 (X + 28) (nI p)) 303 (X + 28) (nI p)) := p1.u303
      have k3 : ∀ {x : Int32}, cI (uI (uI (uI c 302 (X + 28) (nI p)) 303 (X + 28) (nI p)) 302 (X + 28) x) 304 (X + 28) = cI c 304 (X + 28) := fun {x} => by rw [cI_uI, if_neg (by omega), cI_uI, if_neg (by omega)]; exact k4
      rcases r4 with ⟨s1, s3⟩ | ⟨s1, s3⟩
      · have hdv := dv_4 (B := B) (a := p) (k := de B n p - p) s1 (fun i hi => g4 (p + i) (by omega) (by omega))
        have s3' : itr (fun s_ : Int32 × CS => Bc_X2_number_34 (X + 28) (nI lo) (nI hi) s_.1 s_.2) 4096 (0, (g, uI (uI c 302 (X + 28) (nI p)) 303 (X + 28) (nI p))) = _ := s3
        rw [s3', Option.bind_some, Sum.elim_inl]
        dsimp only
        rw [C_is, xbd_some, if_neg (show ¬ 4 < de B n p - p by omega)]
        have hrd : RdC (uI (uI (uI c 302 (X + 28) (nI p)) 303 (X + 28) (nI p)) 302 (X + 28) (nI (de B n p))) X n B (de B n p) := RdC.to hr3 g2
        have e303 : cI (uI (uI (uI c 302 (X + 28) (nI p)) 303 (X + 28) (nI p)) 302 (X + 28) (nI (de B n p))) 303 (X + 28) = nI p := by rw [cI_uI, if_neg (by omega), cI_uI, if_pos ⟨rfl, rfl⟩]
        by_cases hin : lo ≤ dv B p (de B n p - p) ∧ dv B p (de B n p - p) ≤ hi
        · have b1 : nI lo ≤ nI (dv B p (de B n p - p)) := by rw [nI_leI hlo (by omega)]; exact hin.1
          have b2 : nI (dv B p (de B n p - p)) ≤ nI hi := by rw [nI_leI (by omega) hhi]; exact hin.2
          rw [decide_eq_true b1, decide_eq_true b2, if_neg (show ¬ b32 (true && true) = 0 by decide), if_pos hin]
          exact OK_some ⟨rfl, p3.u302, k3, rfl, hrd, e303⟩
        · have b3 : (decide (nI lo ≤ nI (dv B p (de B n p - p))) && decide (nI (dv B p (de B n p - p)) ≤ nI hi)) = false := by
            rw [Bool.eq_false_iff]; intro z; simp only [Bool.and_eq_true, decide_eq_true_eq] at z
            rw [nI_leI hlo (by omega), nI_leI (by omega) hhi] at z
            exact hin z
          rw [b3, if_pos (show b32 false = 0 by decide), if_pos hg.2.2.1, e303, C_wrong hg, xbd_some, if_pos hg.2.2.2.2.1, if_neg hin]
          exact OK_some ⟨rfl, p3.u302.u29.u29, by rw [cI_uI, if_neg (by omega), cI_uI, if_neg (by omega)]; exact k3, rfl, FLT.mk⟩
      · have s3' : itr (fun s_ : Int32 × CS => Bc_X2_number_34 (X + 28) (nI lo) (nI hi) s_.1 s_.2) 4096 (0, (g, uI (uI c 302 (X + 28) (nI p)) 303 (X + 28) (nI p))) = _ := s3
        rw [s3', Option.bind_some, Sum.elim_inr]
        dsimp only
        rw [if_pos hg.2.2.1, C_wrong hg, xbd_some, if_pos hg.2.2.2.2.1, if_pos s1, show cI (uI (uI (uI c 302 (X + 28) (nI p)) 303 (X + 28) (nI p)) 302 (X + 28) (nI (p + 4))) 302 (X + 28) = nI (p + 4) by rw [cI_uI, if_pos ⟨rfl, rfl⟩]]
        exact OK_some ⟨rfl, p3.u302.u29.u29, by rw [cI_uI, if_neg (by omega), cI_uI, if_neg (by omega)]; exact k3, rfl, FLT.mk⟩
end ZZA
