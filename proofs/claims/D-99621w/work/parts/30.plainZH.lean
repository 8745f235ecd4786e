/-! PLAIN LAW: the tape: feed; what else both hold -/
set_option maxRecDepth 100000
section ZHs
variable {g : CG} {c c' : CC} {τ τ' q : TS} {X V s lo hi n m : Nat} {v : VD} {w : Nat → Int32}
theorem CORE.cong (h : CORE g c τ X V v lo hi) (e1 : cR c' 100 X = cR c 100 X) (e2 : cI c' 121 X = cI c 121 X) (e3 : ∀ a, a ≠ X → (a < X + 27 ∨ (X + 34 ≤ a ∧ a < X + 297) ∨ (X + 309 ≤ a ∧ a < X + 1670) ∨ X + 1671 ≤ a) → Eq1 c c' a) (t1 : ∀ k, k = 47 ∨ k = 60 ∨ k = 70 ∨ k = 85 ∨ k = 86 → tI τ' k = tI τ k) (t2 : ∀ k i, k = 9 ∨ k = 45 ∨ k = 49 ∨ k = 50 ∨ k = 55 ∨ k = 56 ∨ k = 57 ∨ k = 62 ∨ k = 84 → tA τ' k i = tA τ k i) : CORE g c' τ' X V v lo hi := by
  obtain ⟨h1, h2, h3, ⟨K, π, h4⟩, h5, h6, h7, h8⟩ := h
  have e : tA τ' 62 = tA τ 62 := funext (fun i => t2 62 i (by omega))
  refine ⟨h1.of2 e1 (fun a a1 a2 => e3 a a1 (by omega)), h2, by rw [e]; exact h3.of (fun a a1 a2 => e3 a (by omega) (by omega)), ⟨K, π, h4.of ⟨(e3 _ (by omega) (by omega)).1 602, fun a a1 a2 => e3 a (by omega) (by omega)⟩⟩, h5.of (t1 60 (by omega)) (t1 47 (by omega)) (fun k i hk => t2 k i (by omega)), by rw [t1 70 (by omega)]; exact h6, h7.of e2 (fun a a1 a2 => e3 a (by omega) (by omega)) (t1 85 (by omega)) (t1 86 (by omega)) (fun i => t2 84 i (by omega)), fun i hi => ?_⟩
  rw [(e3 (X + 34) (by omega) (by omega)).2.2.2.1, t2 9 i (by omega)]; exact h8 i hi
theorem EqF.tr2 {c'' : CC} {a f : Nat} (h : EqF c c' a f) (h' : EqF c' c'' a f) : EqF c c'' a f := h.trans h'
/-- faults -/
def FL (c : CC) (τ : TS) (X : Nat) : Prop := cI c 103 X = tI τ 7 ∧ cI c 104 X = tI τ 8
/-- rows seen -/
def SW (c : CC) (τ : TS) (X : Nat) (v : VD) : Prop := ∃ R, R ≤ 16 ∧ cI c 118 X = nI R ∧ tI τ 79 = nI R ∧ ∀ k, k < R → ∃ s a b, s ≤ 30 ∧ a < vC v ∧ b < vW v ∧ (cA c (X + 297) k = nI s ∧ cA c (X + 298) k = nI a ∧ cA c (X + 299) k = nI b) ∧ tA τ 80 (3 * k) = nI s ∧ tA τ 80 (3 * k + 1) = nI a ∧ tA τ 80 (3 * k + 2) = nI b
def SWG (g : CG) (X : Nat) : Prop := (gR g 115 X = some (X + 297) ∧ gT g (X + 297) = 100 ∧ gN g (X + 297) = 16) ∧ (gR g 116 X = some (X + 298) ∧ gT g (X + 298) = 100 ∧ gN g (X + 298) = 16) ∧ (gR g 117 X = some (X + 299) ∧ gT g (X + 299) = 100 ∧ gN g (X + 299) = 16)
/-- seeds -/
def SE (c : CC) (τ : TS) (X : Nat) : Prop := cL c 122 X = tL τ 87 ∧ sd (tL τ 87)
/-- octets -/
def OC (c : CC) (τ : TS) (X : Nat) : Prop := ∃ m, m ≤ 191 ∧ cI c 124 X = nI m ∧ tI τ 131 = nI m ∧ ∀ i, i < m → cA c (X + 1670) i &&& 255 = tA τ 130 i
def OG (g : CG) (X : Nat) : Prop := gR g 123 X = some (X + 1670) ∧ gT g (X + 1670) = 103 ∧ gN g (X + 1670) = 191
theorem TPE.cong (h : TPE c τ X) (e1 : cI c' 102 X = cI c 102 X) (e2 : ∀ i, cA c' (X + 27) i = cA c (X + 27) i) (e3 : tI τ' 1 = tI τ 1) (e4 : ∀ i, tA τ' 0 i = tA τ 0 i) : TPE c' τ' X := by
  obtain ⟨n, h1, h2, h3, h4⟩ := h
  exact ⟨n, h1, by rw [e1]; exact h2, by rw [e3]; exact h3, fun i hi => by rw [e2, e4]; exact h4 i hi⟩
theorem FL.cong (h : FL c τ X) (e1 : cI c' 103 X = cI c 103 X) (e2 : cI c' 104 X = cI c 104 X) (e3 : tI τ' 7 = tI τ 7) (e4 : tI τ' 8 = tI τ 8) : FL c' τ' X := ⟨by rw [e1, e3]; exact h.1, by rw [e2, e4]; exact h.2⟩
theorem SW.cong (h : SW c τ X v) (e1 : cI c' 118 X = cI c 118 X) (e2 : ∀ a, X + 297 ≤ a → a < X + 300 → Eq1 c c' a) (e3 : tI τ' 79 = tI τ 79) (e4 : ∀ i, tA τ' 80 i = tA τ 80 i) : SW c' τ' X v := by
  obtain ⟨R, h1, h2, h3, h4⟩ := h
  refine ⟨R, h1, by rw [e1]; exact h2, by rw [e3]; exact h3, fun k hk => ?_⟩
  rw [(e2 (X + 297) (by omega) (by omega)).2.2.2.1, (e2 (X + 298) (by omega) (by omega)).2.2.2.1, (e2 (X + 299) (by omega) (by omega)).2.2.2.1, e4, e4, e4]
  exact h4 k hk
theorem SE.cong (h : SE c τ X) (e1 : cL c' 122 X = cL c 122 X) (e2 : tL τ' 87 = tL τ 87) : SE c' τ' X := ⟨by rw [e1, e2]; exact h.1, by rw [e2]; exact h.2⟩
theorem OC.cong (h : OC c τ X) (e1 : cI c' 124 X = cI c 124 X) (e2 : ∀ i, cA c' (X + 1670) i = cA c (X + 1670) i) (e3 : tI τ' 131 = tI τ 131) (e4 : ∀ i, tA τ' 130 i = tA τ 130 i) : OC c' τ' X := by
  obtain ⟨m, h1, h2, h3, h4⟩ := h
  exact ⟨m, h1, by rw [e1]; exact h2, by rw [e3]; exact h3, fun i hi => by rw [e2, e4]; exact h4 i hi⟩
/-! feed -/
def in1 (k : Nat) : Bool := k == 1
def in0 (k : Nat) : Bool := k == 0
/-- the tape alone has moved -/
def FT (X : Nat) (c c' : CC) (τ τ' : TS) : Prop := EqF c c' X 102 ∧ (∀ a, a ≠ X → a ≠ X + 27 → Eq1 c c' a) ∧ TX in1 in0 τ τ'
theorem FT.refl : FT X c c τ τ := ⟨EqF.refl c X 102, fun a _ _ => Eq1.refl c a, TX.refl _ _ τ⟩
theorem FT.trans {c'' : CC} {τ'' : TS} (h : FT X c c' τ τ') (h' : FT X c' c'' τ' τ'') : FT X c c'' τ τ'' := ⟨h.1.trans h'.1, fun a a1 a2 => (h.2.1 a a1 a2).trans (h'.2.1 a a1 a2), h.2.2.trans h'.2.2⟩
theorem EqF.uA' {a b f i : Nat} {x : Int32} (h : EqF c c' a f) (hb : a ≠ b) : EqF c (uA c' b i x) a f := ⟨h.1, h.2.1, h.2.2.1, fun j => by rw [cA_uA, if_neg (fun q => hb q.1)]; exact h.2.2.2.1 j, h.2.2.2.2.1, h.2.2.2.2.2⟩
def TPn (c : CC) (τ : TS) (X n : Nat) : Prop := cI c 102 X = nI n ∧ tI τ 1 = nI n ∧ TB c τ X
def fB (x : Int32) (i : Nat) : Int32 := x >>> (nI (24 - 8 * i) &&& 31)
theorem toInt8_two (y : Int32) : y.toInt8.toInt32.toInt8.toInt32 = (y.toInt8.toInt32).toInt8.toInt32 := rfl
/-- one byte more on both -/
theorem feed_byte {x : Int32} {i : Nat} (h : TPn c τ X n) (hn : n < 1600) : TPn (uA (uI c 102 X (nI n + 1)) (X + 27) n (((fB x i).toInt8.toInt32).toInt8.toInt32)) (sI (sA τ 0 n (fB x i &&& 255)) 1 (nI n + 1)) X (n + 1) ∧ FT X c (uA (uI c 102 X (nI n + 1)) (X + 27) n (((fB x i).toInt8.toInt32).toInt8.toInt32)) τ (sI (sA τ 0 n (fB x i &&& 255)) 1 (nI n + 1)) := by
  obtain ⟨h1, h2, h3⟩ := h
  refine ⟨⟨by rw [cI_uA, cI_uI, if_pos ⟨rfl, rfl⟩, nl_1, nI_add], by rw [tI_sI, if_pos rfl, nl_1, nI_add], fun j hj => ?_⟩, ?_, fun a a1 a2 => ((Eq1.refl c a).uI a1).uA a2, ((TX.refl _ _ τ).sA rfl).sI (Or.inl rfl)⟩
  · rw [cA_uA, tA_sI, tA_sA, cA_uI]
    by_cases e : j = n
    · subst e
      rw [if_pos ⟨rfl, rfl⟩, if_pos ⟨rfl, rfl⟩]
      exact ⟨byte_two _, _, rfl⟩
    · rw [if_neg (fun q => e q.2), if_neg (fun q => e q.2)]; exact h3 j hj
  · exact (EqF.uI (c := c) (a := X) (f := 102)).uA' (by omega)
theorem C_put1 {x : Int32} {i : Nat} (h1 : gT g X = 1) (hg : TG g X) (h : cI c 102 X = nI n) (hn : n < 1600) (hi : i < 4) : Bc_X0_put_3 g X x (nI (24 - 8 * i)) c = some (.inl (if i < 3 then nI (24 - 8 * (i + 1)) else -8, uA (uI c 102 X (nI n + 1)) (X + 27) n (((fB x i).toInt8.toInt32).toInt8.toInt32))) := by
  have e1 : ¬ nI (24 - 8 * i) < 0 := by rw [nl_0, nI_ltI (by omega) (by omega)]; omega
  have e2 : nI (24 - 8 * i) + (-8) = if i < 3 then nI (24 - 8 * (i + 1)) else -8 := by
    rcases (show i = 0 ∨ i = 1 ∨ i = 2 ∨ i = 3 by omega) with rfl | rfl | rfl | rfl <;> decide
  unfold Bc_X0_put_3
  rw [if_neg e1, if_pos h1, hg.1, Option.bind_some, if_pos hg.2.1, hg.2.2, h, if_pos (xin_nI hn (by omega)), nI_clamp (show n < 2 ^ 31 by omega), e2]
  rfl
theorem sh_t : ∀ k, k < 20 → (8 : Int32) * (3 - (nI k - nI k / 4 * 4)) = nI (24 - 8 * (k % 4)) := by decide
theorem T_feed1 {x1 x2 x3 x4 x5 x : Int32} {k : Nat} (h : tI τ 1 = nI n) (hn : n < 1600) (hk : k < 20) : Jt_feed_81 x1 x2 x3 x4 x5 (nI k) x τ = some (.inl (nI (k + 1), sI (sA τ 0 n (fB x (k % 4) &&& 255)) 1 (nI n + 1))) := by
  unfold Jt_feed_81
  rw [sh_t k hk, h, if_pos (xin_nI hn (by omega)), nI_clamp (show n < 2 ^ 31 by omega), tI_sA, h, nl_1, nI_add]
  rfl
/-- a word of the five -/
theorem T_feedB {x1 x2 x3 x4 x5 : Int32} {k : Nat} (h : tI τ 1 = nI n) (hn : n < 1600) (hk : k < 20) : Bt_feed_28 x1 x2 x3 x4 x5 (nI k) τ = some (.inl (nI (k + 1), sI (sA τ 0 n (fB (if k < 4 then x1 else if k < 8 then x2 else if k < 12 then x3 else if k < 16 then x4 else x5) (k % 4) &&& 255)) 1 (nI n + 1))) := by
  unfold Bt_feed_28
  have e1 : ¬ (20 : Int32) ≤ nI k := by rw [nl_20, nI_leI (by omega) (by omega)]; omega
  rw [if_neg e1, T_feed1 h hn hk, T_feed1 h hn hk, T_feed1 h hn hk, T_feed1 h hn hk, T_feed1 h hn hk]
  have q : ∀ j, j < 2147483648 → ((nI j ≤ nI k) ↔ ¬ k < j) := fun j hj => by rw [nI_leI hj (by omega)]; omega
  rw [nl_4, nl_8, nl_12, nl_16]
  by_cases h4 : k < 4
  · rw [if_neg (fun z => (q 4 (by omega)).mp z h4), if_pos h4]
  · rw [if_pos ((q 4 (by omega)).mpr h4), if_neg h4]
    by_cases h8 : k < 8
    · rw [if_neg (fun z => (q 8 (by omega)).mp z h8), if_pos h8]
    · rw [if_pos ((q 8 (by omega)).mpr h8), if_neg h8]
      by_cases h12 : k < 12
      · rw [if_neg (fun z => (q 12 (by omega)).mp z h12), if_pos h12]
      · rw [if_pos ((q 12 (by omega)).mpr h12), if_neg h12]
        by_cases h16 : k < 16
        · rw [if_neg (fun z => (q 16 (by omega)).mp z h16), if_pos h16]
        · rw [if_pos ((q 16 (by omega)).mpr h16), if_neg h16]
/-- one word of both -/
theorem feed_word {x1 x2 x3 x4 x5 x : Int32} {j fuel : Nat} (h1 : gT g X = 1) (hg : TG g X) (h : TPn c τ X n) (hn : n + 4 ≤ 1600) (hj : j < 5) (hx : ∀ i, i < 4 → (if 4 * j + i < 4 then x1 else if 4 * j + i < 8 then x2 else if 4 * j + i < 12 then x3 else if 4 * j + i < 16 then x4 else x5) = x) :
    ∃ c' τ', f_c_X0_put g X x c = some c' ∧ itr (fun s_ : Int32 × TS => Bt_feed_28 x1 x2 x3 x4 x5 s_.1 s_.2) (fuel + 4) (nI (4 * j), τ) = itr (fun s_ : Int32 × TS => Bt_feed_28 x1 x2 x3 x4 x5 s_.1 s_.2) fuel (nI (4 * (j + 1)), τ') ∧ TPn c' τ' X (n + 4) ∧ FT X c c' τ τ' := by
  have b0 := feed_byte (x := x) (i := 0) h (by omega)
  have b1 := feed_byte (x := x) (i := 1) b0.1 (by omega)
  have b2 := feed_byte (x := x) (i := 2) b1.1 (by omega)
  have b3 := feed_byte (x := x) (i := 3) b2.1 (by omega)
  refine ⟨_, _, ?_, ?_, b3.1, ((b0.2.trans b1.2).trans b2.2).trans b3.2⟩
  · unfold f_c_X0_put
    rw [show (4096 : Nat) = 4091 + 1 + 1 + 1 + 1 + 1 from rfl]
    rw [itr_inl (a' := (nI 16, _)) (C_put1 (i := 0) h1 hg h.1 (by omega) (by omega))]
    rw [itr_inl (a' := (nI 8, _)) (C_put1 (i := 1) h1 hg b0.1.1 (by omega) (by omega))]
    rw [itr_inl (a' := (nI 0, _)) (C_put1 (i := 2) h1 hg b1.1.1 (by omega) (by omega))]
    rw [itr_inl (a' := (-8, _)) (C_put1 (i := 3) h1 hg b2.1.1 (by omega) (by omega))]
    rw [itr_inr (b := _) (by show Bc_X0_put_3 g X x (-8) _ = _; unfold Bc_X0_put_3; rw [if_pos (show (-8 : Int32) < 0 by decide)])]
    rfl
  · have t0 := T_feedB (x1 := x1) (x2 := x2) (x3 := x3) (x4 := x4) (x5 := x5) (k := 4 * j) h.2.1 (by omega) (by omega)
    have t1 := T_feedB (x1 := x1) (x2 := x2) (x3 := x3) (x4 := x4) (x5 := x5) (k := 4 * j + 1) b0.1.2.1 (by omega) (by omega)
    have t2 := T_feedB (x1 := x1) (x2 := x2) (x3 := x3) (x4 := x4) (x5 := x5) (k := 4 * j + 2) b1.1.2.1 (by omega) (by omega)
    have t3 := T_feedB (x1 := x1) (x2 := x2) (x3 := x3) (x4 := x4) (x5 := x5) (k := 4 * j + 3) b2.1.2.1 (by omega) (by omega)
    rw [show (if 4 * j < 4 then x1 else if 4 * j < 8 then x2 else if 4 * j < 12 then x3 else if 4 * j < 16 then x4 else x5) = x from hx 0 (by omega), show 4 * j % 4 = 0 by omega] at t0
    rw [hx 1 (by omega), show (4 * j + 1) % 4 = 1 by omega] at t1
    rw [hx 2 (by omega), show (4 * j + 2) % 4 = 2 by omega] at t2
    rw [hx 3 (by omega), show (4 * j + 3) % 4 = 3 by omega] at t3
    rw [show fuel + 4 = fuel + 1 + 1 + 1 + 1 from rfl]
    rw [itr_inl (a' := (_, _)) t0, itr_inl (a' := (_, _)) t1, itr_inl (a' := (_, _)) t2, itr_inl (a' := (_, _)) t3]
    rfl
theorem I_feed {x1 x2 x3 x4 x5 : Int32} (h1 : gT g X = 1) (hg : TG g X) (hr : RG g X) (h : TPE c τ X) : OK2 (f_c_X0_feed g X x1 x2 x3 x4 x5 c) (f_t_feed x1 x2 x3 x4 x5 τ) (fun o r => o.1 = r.1 ∧ ((TPE o.2 r.2 X ∧ FT X c o.2 τ r.2 ∧ ∃ n, cI c 102 X = nI n ∧ cI o.2 102 X = nI (n + 20) ∧ n + 20 ≤ 1600) ∨ (o.2 = uA c (X + 34) 0 (cA c (X + 34) 0 + nI 1) ∧ r.2 = sA τ 9 0 (tA τ 9 0 + nI 1)))) := by
  obtain ⟨n, hn, e1, e2, e3⟩ := h
  unfold f_c_X0_feed f_t_feed
  rw [if_pos h1, e1, e2, nl_20, nl_1600, nI_add]
  by_cases hz : n + 20 ≤ 1600
  · rw [if_pos (by rw [nI_leI (by omega) (by omega)]; exact hz), if_pos (by rw [nI_leI (by omega) (by omega)]; exact hz)]
    obtain ⟨c1, τ1, a1, d1, p1, f1⟩ := feed_word (x1 := x1) (x2 := x2) (x3 := x3) (x4 := x4) (x5 := x5) (x := x1) (j := 0) (fuel := 4092) h1 hg ⟨e1, e2, e3⟩ (by omega) (by omega) (fun i hi => by rw [if_pos (by omega)])
    obtain ⟨c2, τ2, a2, d2, p2, f2⟩ := feed_word (x1 := x1) (x2 := x2) (x3 := x3) (x4 := x4) (x5 := x5) (x := x2) (j := 1) (fuel := 4088) h1 hg p1 (by omega) (by omega) (fun i hi => by rw [if_neg (by omega), if_pos (by omega)])
    obtain ⟨c3, τ3, a3, d3, p3, f3⟩ := feed_word (x1 := x1) (x2 := x2) (x3 := x3) (x4 := x4) (x5 := x5) (x := x3) (j := 2) (fuel := 4084) h1 hg p2 (by omega) (by omega) (fun i hi => by rw [if_neg (by omega), if_neg (by omega), if_pos (by omega)])
    obtain ⟨c4, τ4, a4, d4, p4, f4⟩ := feed_word (x1 := x1) (x2 := x2) (x3 := x3) (x4 := x4) (x5 := x5) (x := x4) (j := 3) (fuel := 4080) h1 hg p3 (by omega) (by omega) (fun i hi => by rw [if_neg (by omega), if_neg (by omega), if_neg (by omega), if_pos (by omega)])
    obtain ⟨c5, τ5, a5, d5, p5, f5⟩ := feed_word (x1 := x1) (x2 := x2) (x3 := x3) (x4 := x4) (x5 := x5) (x := x5) (j := 4) (fuel := 4076) h1 hg p4 (by omega) (by omega) (fun i hi => by rw [if_neg (by omega), if_neg (by omega), if_neg (by omega), if_neg (by omega)])
    have dd : itr (fun s_ : Int32 × TS => Bt_feed_28 x1 x2 x3 x4 x5 s_.1 s_.2) 4096 (0, τ) = some τ5 := by
      refine d1.trans (d2.trans (d3.trans (d4.trans (d5.trans ?_))))
      rw [show (4076 : Nat) = 4075 + 1 from rfl]
      exact itr_inr (by show Bt_feed_28 x1 x2 x3 x4 x5 (nI 20) τ5 = _; unfold Bt_feed_28; rw [if_pos (by decide)])
    rw [a1, Option.bind_some, a2, Option.bind_some, a3, Option.bind_some, a4, Option.bind_some, a5, Option.bind_some, dd, Option.bind_some]
    exact OK2_some ⟨p5.1.trans p5.2.1.symm, Or.inl ⟨⟨n + 20, hz, p5.1, p5.2.1, p5.2.2⟩, ((((f1.trans f2).trans f3).trans f4).trans f5), n, rfl, p5.1, hz⟩⟩
  · rw [if_neg (by rw [nI_leI (by omega) (by omega)]; exact hz), if_neg (by rw [nI_leI (by omega) (by omega)]; exact hz), nl_0, C_refuses h1 hr (by omega), xbd_some, if_pos (show xin (nI 0) 6 = true by decide), if_pos (show xin (nI 0) 6 = true by decide)]
    exact OK2_some ⟨rfl, Or.inr ⟨rfl, rfl⟩⟩
end ZHs
