/-! PLAIN LAW: both together: thoughts (a state is put aside, seasons go, it is taken back) -/
set_option maxRecDepth 100000
theorem payLN_G {v : VD} {c p : Int32} {w G G' : Nat → Int32} : ∀ k, (payLN v c (w, G, p) k).1 = (payLN v c (w, G', p) k).1 ∧ (payLN v c (w, G, p) k).2.2 = (payLN v c (w, G', p) k).2.2
  | 0 => ⟨rfl, rfl⟩
  | k + 1 => by
    obtain ⟨h1, h2⟩ := payLN_G (v := v) (c := c) (p := p) (w := w) (G := G) (G' := G') k
    show (payL v c k (payLN v c (w, G, p) k)).1 = (payL v c k (payLN v c (w, G', p) k)).1 ∧ (payL v c k (payLN v c (w, G, p) k)).2.2 = (payL v c k (payLN v c (w, G', p) k)).2.2
    unfold payL
    by_cases e : ofS v k c = true
    · rw [if_pos e, if_pos e, h1, h2]; exact ⟨rfl, rfl⟩
    · rw [if_neg e, if_neg e]; exact ⟨h1, h2⟩
theorem bpN_G {v : VD} {a b : Int32} {w G G' : Nat → Int32} : ∀ k, (bpN v (w, G, a, b) k).1 = (bpN v (w, G', a, b) k).1 ∧ (bpN v (w, G, a, b) k).2.2 = (bpN v (w, G', a, b) k).2.2
  | 0 => ⟨rfl, rfl⟩
  | k + 1 => by
    obtain ⟨h1, h2⟩ := bpN_G (v := v) (a := a) (b := b) (w := w) (G := G) (G' := G') k
    show (bpS v k (bpN v (w, G, a, b) k)).1 = (bpS v k (bpN v (w, G', a, b) k)).1 ∧ (bpS v k (bpN v (w, G, a, b) k)).2.2 = (bpS v k (bpN v (w, G', a, b) k)).2.2
    unfold bpS
    rw [h1]
    by_cases e : bendS v (bpN v (w, G', a, b) k).1 k = true
    · rw [if_pos e, if_pos e, h2]
      obtain ⟨q1, q2⟩ := payLN_G (v := v) (c := nI k) (p := nI 0) (w := (bpN v (w, G', a, b) k).1) (G := (bpN v (w, G, a, b) k).2.1) (G' := (bpN v (w, G', a, b) k).2.1) (vN v)
      exact ⟨q1, by show (_, _) = (_, _); rw [q2]⟩
    · rw [if_neg e, if_neg e]; exact ⟨h1, h2⟩
theorem seasonP_G {v : VD} {w G G' : Nat → Int32} : (seasonP v w G).1 = (seasonP v w G').1 ∧ (seasonP v w G).2.2 = (seasonP v w G').2.2 := bpN_G (vC v)
theorem seasonW_G {v : VD} {b : Bool} {w G G' : Nat → Int32} : seasonW v b w G = seasonW v b w G' := by
  obtain ⟨h1, h2⟩ := seasonP_G (v := v) (w := w) (G := G) (G' := G')
  unfold seasonW
  rw [h1, h2]
theorem everN_hi {v : VD} {w : Nat → Int32} (hb : VB v) (hr : WR v w) {j : Nat} (hj : 172 ≤ j) : ∀ k, k ≤ vC v → everN w k j = w j
  | 0, _ => rfl
  | k + 1, h => by
    have h1 := hb.1
    have h2 := hb.2.1
    show everS (everN w k) k j = w j
    obtain ⟨r, hr1, hr2⟩ := everN_WR hb hr k k (by omega)
    rw [everS_out (by rw [hr2, nI_clamp (by omega)]; omega)]
    exact everN_hi hb hr hj k (by omega)
theorem seasonP_out {v : VD} {w G : Nat → Int32} (hb : VB v) (hr : WR v w) {j : Nat} (hj : j < 2 ∨ 182 ≤ j) : (seasonP v w G).1 j = w j := by
  have h1 := hb.1
  unfold seasonP
  rw [bpN_out hb (by omega)]
  show everN (moveN v w (vC v)) (vC v) j = w j
  rcases hj with h | h
  · rw [everN_out (by omega), moveN_out (by omega) _ h1]
  · rw [everN_hi hb (moveN_WR hb hr _) (by omega) _ (Nat.le_refl _), moveN_out (by omega) _ h1]
theorem seasonT_0 {v : VD} {w G : Nat → Int32} (hb : VB v) (hr : WR v w) : seasonW v true w G 0 = w 0 + nI 1 := by
  unfold seasonW fundS
  rw [if_pos rfl, pk_us, pk_un (by omega), seasonP_out hb hr (by omega)]
theorem seasonT_hi {v : VD} {w G : Nat → Int32} (hb : VB v) (hr : WR v w) {j : Nat} (hj : 182 ≤ j) : seasonW v true w G j = w j := by
  unfold seasonW fundS
  rw [if_pos rfl, pk_un (by omega), pk_un (by omega), seasonP_out hb hr (by omega)]
/-- what is left noise by thoughts -/
def CZ (X : Nat) (c c' : CC) : Prop := ∀ a, ¬ (a = X + 31 ∨ (X + 103 ≤ a ∧ a < X + 297) ∨ (X + 300 ≤ a ∧ a < X + 309)) → Eq1 c c' a
theorem CZ.refl (X : Nat) (c : CC) : CZ X c c := fun a _ => Eq1.refl c a
theorem CZ.trans {X : Nat} {c c' c'' : CC} (h : CZ X c c') (h' : CZ X c' c'') : CZ X c c'' := fun a ha => (h a ha).trans (h' a ha)
theorem CN.cz {X : Nat} {c c' : CC} (h : CN X c c') : CZ X c c' := fun a ha => h a (fun e => ha (Or.inl e))
theorem CF.cz {X : Nat} {c c' : CC} (h : CF X (X + 103) c c') : CZ X c c' := fun a ha => h a (fun e => ha (Or.inl e)) (by omega)
theorem CZ.uA {X b i : Nat} {c c' : CC} {x : Int32} (h : CZ X c c') (hb : (X + 103 ≤ b ∧ b < X + 297) ∨ (X + 300 ≤ b ∧ b < X + 309)) : CZ X c (uA c' b i x) := fun a h1 => (h a h1).uA (by omega)
def fZ (k : Nat) : Bool := k == 71 || k == 73 || k == 74 || k == 83
def aZ (k : Nat) : Bool := k == 63 || k == 72 || k == 75 || k == 76 || k == 77 || k == 78 || k == 81 || k == 82
def fY (k : Nat) : Bool := k == 70 || fZ k
def aY (k : Nat) : Bool := k == 62 || aZ k
theorem TX.zy {τ τ' : TS} (h : TX fZ aZ τ τ') : TX fY aY τ τ' := h.mono (fun k hk => by unfold fY at hk; simp at hk; exact hk.2) (fun k hk => by unfold aY at hk; simp at hk; exact hk.2)
theorem TX.yz {τ τ' : TS} (h : TX fY aY τ τ') (h1 : tI τ' 70 = tI τ 70) (h2 : tA τ' 62 = tA τ 62) : TX fZ aZ τ τ' := by
  refine ⟨fun k a b => ?_, h.2.1, fun k i a => ?_, h.2.2.2⟩
  · by_cases e : k = 70
    · subst e; exact h1
    · exact h.1 k (by unfold fY; simp [a, e]) b
  · by_cases e : k = 62
    · subst e; rw [h2]
    · exact h.2.2.1 k i (by unfold aY; simp [a, e])
theorem TX.sy {τ τ' : TS} (h : TX in71 in72 τ τ') : TX fY aY τ τ' := h.mono (fun k hk => by unfold fY fZ at hk; unfold in71; simp at hk ⊢; omega) (fun k hk => by unfold aY aZ at hk; unfold in72; simp at hk ⊢; omega)
theorem TV.y {τ τ' : TS} {v : VD} (h : TV τ v) (n : TX fY aY τ τ') : TV τ' v := h.tx n ⟨rfl, rfl⟩ ⟨rfl, rfl, rfl, rfl, rfl, rfl⟩
theorem TV.z {τ τ' : TS} {v : VD} (h : TV τ v) (n : TX fZ aZ τ τ') : TV τ' v := h.tx n ⟨rfl, rfl⟩ ⟨rfl, rfl, rfl, rfl, rfl, rfl⟩
theorem T_putsAside {τ : TS} : OK (f_t_putsAside τ) (fun τ' => (∀ i, i < 182 → tA τ' 63 i = tA τ 62 i) ∧ tI τ' 70 = nI 1 ∧ tA τ' 62 = tA τ 62 ∧ tA τ' 72 = tA τ 72 ∧ TX fY aY τ τ') := by
  unfold f_t_putsAside
  rw [nl_1]
  have t0 : TX fY aY τ (sI τ 70 (nI 1)) := (TX.refl fY aY τ).sI (Or.inl rfl)
  refine OK_bind (P := fun τ' => (∀ i, i < 182 → tA τ' 63 i = tA τ 62 i) ∧ tI τ' 70 = nI 1 ∧ tA τ' 62 = tA τ 62 ∧ tA τ' 72 = tA τ 72 ∧ TX fY aY τ τ') ?_ (fun τ' q => OK_some q)
  refine itr_for (fun k p => ∃ τ', p = (nI k, τ') ∧ (∀ i, i < k → tA τ' 63 i = tA τ 62 i) ∧ tI τ' 70 = nI 1 ∧ tA τ' 62 = tA τ 62 ∧ tA τ' 72 = tA τ 72 ∧ TX fY aY τ τ') _ 0 182 ?_ ?_ (by omega) (by omega) ⟨_, rfl, fun i hi => absurd hi (Nat.not_lt_zero i), rfl, rfl, rfl, t0⟩
  · rintro k p - hk ⟨τ', rfl, h1, h2, h3, h4, h5⟩
    show OK (Bt_putsAside_7 (nI k) τ') _
    unfold Bt_putsAside_7
    have h9 : ¬ nI 182 ≤ nI k := by rw [nI_leI (by omega) (by omega)]; omega
    simp only [nl_182, nl_1, h9, xin_nI (show k < 303 by omega) (show 303 < 2147483648 by omega), xin_nI hk (show 182 < 2147483648 by omega), nI_clamp (show k < 2 ^ 31 by omega), nI_add, reduceIte]
    refine ⟨_, rfl, Or.inl ⟨_, rfl, _, rfl, fun i hi => ?_, h2, ?_, ?_, h5.sA rfl⟩⟩
    · rw [tA_sA, h3]
      by_cases e : i = k
      · subst e; rw [if_pos ⟨rfl, rfl⟩]
      · rw [if_neg (fun q => e q.2)]; exact h1 i (by omega)
    · rw [tA_updn (by omega)]; exact h3
    · rw [tA_updn (by omega)]; exact h4
  · rintro p ⟨τ', rfl, h1⟩
    show OK (Bt_putsAside_7 (nI 182) τ') _
    unfold Bt_putsAside_7
    have h9 : nI 182 ≤ nI 182 := by decide
    simp only [nl_182, h9, reduceIte]
    exact ⟨_, rfl, _, rfl, h1⟩
theorem T_triesAnew {τ : TS} : OK (f_t_triesAnew τ) (fun τ' => (∀ i, tA τ' 62 i = if i < 182 then tA τ 63 i else tA τ 62 i) ∧ tA τ' 63 = tA τ 63 ∧ tA τ' 72 = tA τ 72 ∧ TX no in62 τ τ') := by
  unfold f_t_triesAnew
  refine OK_bind (P := fun τ' => (∀ i, tA τ' 62 i = if i < 182 then tA τ 63 i else tA τ 62 i) ∧ tA τ' 63 = tA τ 63 ∧ tA τ' 72 = tA τ 72 ∧ TX no in62 τ τ') ?_ (fun τ' q => OK_some q)
  refine itr_for (fun k p => ∃ τ', p = (nI k, τ') ∧ (∀ i, tA τ' 62 i = if i < k then tA τ 63 i else tA τ 62 i) ∧ tA τ' 63 = tA τ 63 ∧ tA τ' 72 = tA τ 72 ∧ TX no in62 τ τ') _ 0 182 ?_ ?_ (by omega) (by omega) ⟨_, rfl, fun i => (if_neg (Nat.not_lt_zero i)).symm, rfl, rfl, TX.refl no in62 τ⟩
  · rintro k p - hk ⟨τ', rfl, h1, h3, h4, h5⟩
    show OK (Bt_triesAnew_2 (nI k) τ') _
    unfold Bt_triesAnew_2
    have h9 : ¬ nI 182 ≤ nI k := by rw [nI_leI (by omega) (by omega)]; omega
    simp only [nl_182, nl_1, h9, xin_nI (show k < 303 by omega) (show 303 < 2147483648 by omega), xin_nI hk (show 182 < 2147483648 by omega), nI_clamp (show k < 2 ^ 31 by omega), nI_add, reduceIte]
    refine ⟨_, rfl, Or.inl ⟨_, rfl, _, rfl, fun i => ?_, ?_, ?_, h5.sA rfl⟩⟩
    · rw [tA_sA, h3]
      by_cases e : i = k
      · subst e; rw [if_pos ⟨rfl, rfl⟩, if_pos (by omega)]
      · rw [if_neg (fun q => e q.2), h1]
        by_cases e2 : i < k
        · rw [if_pos e2, if_pos (by omega)]
        · rw [if_neg e2, if_neg (by omega)]
    · rw [tA_updn (by omega)]; exact h3
    · rw [tA_updn (by omega)]; exact h4
  · rintro p ⟨τ', rfl, h1⟩
    show OK (Bt_triesAnew_2 (nI 182) τ') _
    unfold Bt_triesAnew_2
    have h9 : nI 182 ≤ nI 182 := by decide
    simp only [nl_182, h9, reduceIte]
    exact ⟨_, rfl, _, rfl, h1⟩
theorem T_takesBack {τ : TS} : OK (f_t_takesBack τ) (fun τ' => (∀ i, tA τ' 62 i = if i < 182 then tA τ 63 i else tA τ 62 i) ∧ tI τ' 70 = nI 0 ∧ TX fY aY τ τ') := by
  unfold f_t_takesBack
  refine OK_bind T_triesAnew (fun τ' q => OK_some ⟨q.1, ?_, ?_⟩)
  · rw [tI_sI, if_pos rfl, nl_0]
  · exact (q.2.2.2.mono (fun k _ => rfl) (fun k hk => by unfold aY at hk; unfold in62; simp at hk ⊢; exact hk.1)).sI (Or.inl rfl)
/-- in thoughts: the state that is tried is the twin's own -/
def TH (g : CG) (c : CC) (τ : TS) (X V : Nat) (v : VD) (lo hi n : Nat) : Prop := CX g c X V v lo hi ∧ (gR g 109 X = some (X + 35) ∧ gR g 110 X = some (X + 103)) ∧ CT g c X (X + 103) v (tA τ 62) ∧ (∃ K π, RKp c (X + 103) K π) ∧ TV τ v ∧ tI τ 70 = nI 1 ∧ (∃ K, K ≤ 40 ∧ tA τ 62 182 = nI K) ∧ tA τ 62 0 = nI n
section THs
variable {g : CG} {c : CC} {τ : TS} {X V lo hi n : Nat} {v : VD}
theorem TH.cn {c' : CC} {τ' : TS} (h : TH g c τ X V v lo hi n) (q : CN X c c') (m : TN τ τ') : TH g c' τ' X V v lo hi n := by
  obtain ⟨h1, h2, h3, ⟨K, π, h4⟩, h6, h7, h8, h9⟩ := h
  have e : tA τ' 62 = tA τ 62 := funext (fun i => m.2.2.1 62 i)
  exact ⟨h1.cn q, h2, by rw [e]; exact h3.cn q, ⟨K, π, h4.cn (by omega) q⟩, h6.tn m, by rw [m.1 70 rfl]; exact h7, by rw [e]; exact h8, by rw [e]; exact h9⟩
theorem I_pass (h : TH g c τ X V v lo hi n) (hn : n < 5000) : OK2 (f_c_X5_passes g (X + 103) c) (f_t_seasonGoes τ) (fun o q => TH g o.2 q X V v lo hi (n + 1) ∧ CF X (X + 103) c o.2 ∧ TX in71 in72 τ q ∧ (∀ j, 182 ≤ j → tA q 62 j = tA τ 62 j) ∧ tI q 71 = tI τ 71 + o.1 ∧ (RH c (X + 103) (vN v) (tA τ 72) → RH o.2 (X + 103) (vN v) (tA q 72))) := by
  obtain ⟨h1, h2, h3, ⟨K, π, h4⟩, h6, h7, ⟨K', h8, h8'⟩, h9⟩ := h
  have hb := h1.2.2.2.2.2.1
  have hr := h3.2.2.1.1
  obtain ⟨o, e1, p1, p2, p3, p4, K2, π2, p5, -⟩ := C_passes (G := fun k => cA c (X + 103 + 67) k) h1 h3 (fun k _ => rfl) h4 h9 hn
  obtain ⟨q, e2, q1, q2, q3, q4⟩ := T_seasonGoes h6 hb hr h8 h8'
  have ed : decide (¬ tI τ 70 = nI 0) = true := by rw [h7]; decide
  rw [ed] at q1
  refine ⟨o, q, e1, e2, ⟨h1.cf h3.2.2.2 p4, h2, ?_, ⟨K2, π2, p5⟩, h6.y q4.sy, ?_, ⟨K', h8, ?_⟩, ?_⟩, p4, q4, fun j hj => ?_, ?_, fun hG => ?_⟩
  · rw [q1, seasonW_G (G' := fun k => cA c (X + 103 + 67) k)]; exact p2
  · rw [q4.1 70 rfl rfl]; exact h7
  · rw [q1, seasonT_hi hb hr (by omega)]; exact h8'
  · rw [q1, seasonT_0 hb hr, h9, nI_add]
  · rw [q1, seasonT_hi hb hr hj]
  · rw [q3, p1, (seasonP_G (v := v) (w := tA τ 62) (G := tA τ 72) (G' := fun k => cA c (X + 103 + 67) k)).2]
  · obtain ⟨o', e3, -, -, r3, -⟩ := C_passes h1 h3 hG h4 h9 hn
    have : o' = o := by rw [e1] at e3; exact (Option.some.inj e3).symm
    rw [this] at r3
    rw [q2]; exact r3
/-- the state is put aside, copied -/
theorem I_aside (h : IV g c τ X V v lo hi) : OK2 (f_c_X5_copy g (X + 103) (X + 35) c) (f_t_putsAside τ) (fun o q => o.1 = X + 103 ∧ (∀ n, tA τ 62 0 = nI n → TH g o.2 q X V v lo hi n) ∧ CF X (X + 103) c o.2 ∧ TX fY aY τ q ∧ tA q 62 = tA τ 62 ∧ tA q 72 = tA τ 72 ∧ (∀ i, i < 182 → tA q 63 i = tA τ 62 i) ∧ RH o.2 (X + 103) 5 (fun _ => nI 0)) := by
  obtain ⟨h1, h2, h3, ⟨K, π, k1, k2⟩, ⟨h5, K', π', k3⟩, h6, h7, -⟩ := h
  have hb := h1.2.2.2.2.2.1
  obtain ⟨o, e1, p1, p2, p3, p4, p5, p6⟩ := C_copy h5 h3.1 (by omega) k3 k1
  obtain ⟨q, e2, q1, q2, q3, q4, q5⟩ := T_putsAside (τ := τ)
  refine ⟨o, q, e1, e2, p1, fun n hn => ⟨h1.cf (by omega) p6.cf, h2, ⟨h5, ?_, ?_, by omega⟩, ⟨K, π', p4⟩, h6.y q5, q2, ⟨K, k1.2.1, ?_⟩, ?_⟩, p6.cf, q5, q3, q4, q1, p3⟩
  · rw [q3]; exact p2 _ _ hb.2.2.2.1 (fun k hk => (h3.2.2.1.2.2.2.2 k hk).1) h3.2.1
  · rw [q3]; exact h3.2.2.1
  · rw [q3]; exact k2.1
  · rw [q3]; exact hn
/-- seasons in thoughts -/
theorem I_seasons {k : Nat} (h : TH g c τ X V v lo hi n) (hk : n + k ≤ 4000) : OK2 (f_c_X5_seasons g (X + 103) (nI k) c) (f_t_seasonsGo (nI k) τ) (fun o q => o.1 = X + 103 ∧ TH g o.2 q X V v lo hi (n + k) ∧ CF X (X + 103) c o.2 ∧ TX in71 in72 τ q ∧ (∀ j, 182 ≤ j → tA q 62 j = tA τ 62 j) ∧ (RH c (X + 103) (vN v) (tA τ 72) → RH o.2 (X + 103) (vN v) (tA q 72))) := by
  unfold f_c_X5_seasons f_t_seasonsGo
  refine OK2_bind (P := fun c' q => TH g c' q X V v lo hi (n + k) ∧ CF X (X + 103) c c' ∧ TX in71 in72 τ q ∧ (∀ j, 182 ≤ j → tA q 62 j = tA τ 62 j) ∧ (RH c (X + 103) (vN v) (tA τ 72) → RH c' (X + 103) (vN v) (tA q 72))) ?_ (fun c' q hq => OK2_some ⟨rfl, hq⟩)
  refine itr_two (fun i s t => ∃ c' q, s = (nI i, c') ∧ t = (nI i, q) ∧ TH g c' q X V v lo hi (n + i) ∧ CF X (X + 103) c c' ∧ TX in71 in72 τ q ∧ (∀ j, 182 ≤ j → tA q 62 j = tA τ 62 j) ∧ (RH c (X + 103) (vN v) (tA τ 72) → RH c' (X + 103) (vN v) (tA q 72))) _ 0 k ?_ ?_ (by omega) (by omega) ⟨c, τ, rfl, rfl, h, CF.refl _ _ c, TX.refl _ _ τ, fun _ _ => rfl, fun h => h⟩
  · rintro i s t - hi ⟨c', q, rfl, rfl, p1, p2, p3, p4, p5⟩
    obtain ⟨o, q', e1, e2, r1, r2, r3, r4, -, r6⟩ := I_pass p1 (by omega)
    show OK2 (Bc_X5_seasons_2 g (X + 103) (nI k) (nI i) c') (Bt_seasonsGo_2 (nI k) (nI i) q) _
    unfold Bc_X5_seasons_2 Bt_seasonsGo_2
    have h9 : ¬ nI k ≤ nI i := by rw [nI_leI (by omega) (by omega)]; omega
    obtain ⟨r, c''⟩ := o
    simp only [h9, p1.2.2.1.1.1, e1, e2, xbd_some, Option.bind_some, reduceIte, nl_1, nI_add]
    exact OK2_some (Or.inl ⟨_, _, rfl, rfl, c'', q', rfl, rfl, r1, p2.trans r2, p3.trans r3, fun j hj => (r4 j hj).trans (p4 j hj), fun hG => r6 (p5 hG)⟩)
  · rintro s t ⟨c', q, rfl, rfl, p1⟩
    show OK2 (Bc_X5_seasons_2 g (X + 103) (nI k) (nI k) c') (Bt_seasonsGo_2 (nI k) (nI k) q) _
    unfold Bc_X5_seasons_2 Bt_seasonsGo_2
    have h9 : nI k ≤ nI k := by rw [nI_leI (by omega) (by omega)]; omega
    simp only [h9, reduceIte]
    exact OK2_some ⟨_, _, rfl, rfl, p1⟩
end THs
