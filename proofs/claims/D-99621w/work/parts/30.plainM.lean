/-! PLAIN LAW: seasons in thoughts as a plain function; the component's works -/
set_option maxRecDepth 100000
def seasN (v : VD) (w : Nat → Int32) : Nat → Nat → Int32
  | 0 => w
  | k + 1 => seasonW v true (seasN v w k) (fun _ => nI 0)
def gainN (v : VD) (w G : Nat → Int32) : Nat → Nat → Int32
  | 0 => G
  | k + 1 => (seasonP v (seasN v w k) (gainN v w G k)).2.1
theorem seasonT_row {v : VD} {w G : Nat → Int32} (hb : VB v) {j : Nat} (h1 : 2 ≤ j) (h2 : j < 12) : seasonW v true w G j = moveN v w (vC v) j := by
  unfold seasonW fundS
  rw [if_pos rfl, pk_un (by omega), pk_un (by omega)]
  unfold seasonP
  rw [bpN_out hb (by omega)]
  show everN (moveN v w (vC v)) (vC v) j = _
  rw [everN_out (by omega)]
theorem seasonT_WR {v : VD} {w G : Nat → Int32} (hb : VB v) (h : WR v w) : WR v (seasonW v true w G) := by
  intro k hk
  have := hb.1
  rw [seasonT_row hb (by omega) (by omega)]
  exact moveN_WR hb h _ k hk
theorem seasN_WR {v : VD} {w : Nat → Int32} (hb : VB v) (h : WR v w) : ∀ k, WR v (seasN v w k)
  | 0 => h
  | k + 1 => seasonT_WR hb (seasN_WR hb h k)
theorem seasN_0 {v : VD} {w : Nat → Int32} {n : Nat} (hb : VB v) (h : WR v w) (hn : w 0 = nI n) : ∀ k, seasN v w k 0 = nI (n + k)
  | 0 => hn
  | k + 1 => by
    show seasonW v true (seasN v w k) _ 0 = _
    rw [seasonT_0 hb (seasN_WR hb h k), seasN_0 hb h hn k, nI_add]
    rfl
theorem seasN_hi {v : VD} {w : Nat → Int32} (hb : VB v) (h : WR v w) {j : Nat} (hj : 182 ≤ j) : ∀ k, seasN v w k j = w j
  | 0 => rfl
  | k + 1 => by
    show seasonW v true (seasN v w k) _ j = _
    rw [seasonT_hi hb (seasN_WR hb h k) hj]
    exact seasN_hi hb h hj k
theorem T_seasons {τ : TS} {v : VD} {k : Nat} (h : TV τ v) (hb : VB v) (h70 : tI τ 70 = nI 1) (hr : WR v (tA τ 62)) (hK : ∃ K, K ≤ 40 ∧ tA τ 62 182 = nI K) (hk : k ≤ 1000) : OK (f_t_seasonsGo (nI k) τ) (fun q => tA q 62 = seasN v (tA τ 62) k ∧ tA q 72 = gainN v (tA τ 62) (tA τ 72) k ∧ TX in71 in72 τ q) := by
  obtain ⟨K, hK1, hK2⟩ := hK
  unfold f_t_seasonsGo
  refine OK_bind (P := fun q => tA q 62 = seasN v (tA τ 62) k ∧ tA q 72 = gainN v (tA τ 62) (tA τ 72) k ∧ TX in71 in72 τ q) ?_ (fun q hq => OK_some hq)
  refine itr_for (fun i p => ∃ q, p = (nI i, q) ∧ tA q 62 = seasN v (tA τ 62) i ∧ tA q 72 = gainN v (tA τ 62) (tA τ 72) i ∧ TX in71 in72 τ q) _ 0 k ?_ ?_ (by omega) (by omega) ⟨τ, rfl, rfl, rfl, TX.refl _ _ τ⟩
  · rintro i p - hi ⟨q, rfl, p1, p2, p3⟩
    show OK (Bt_seasonsGo_2 (nI k) (nI i) q) _
    unfold Bt_seasonsGo_2
    have h9 : ¬ nI k ≤ nI i := by rw [nI_leI (by omega) (by omega)]; omega
    obtain ⟨q', e, r1, r2, r3, r4⟩ := T_seasonGoes (K := K) (h.y p3.sy) hb (by rw [p1]; exact seasN_WR hb hr i) hK1 (by rw [p1, seasN_hi hb hr (by omega)]; exact hK2)
    simp only [h9, e, Option.bind_some, reduceIte, nl_1, nI_add]
    refine ⟨_, rfl, Or.inl ⟨_, rfl, q', rfl, ?_, ?_, p3.trans r4⟩⟩
    · rw [r1, p3.1 70 rfl rfl, h70, p1, show decide (¬ nI 1 = nI 0) = true by decide, seasonW_G (G' := fun _ => nI 0)]; rfl
    · rw [r2, p1, p2]; rfl
  · rintro p ⟨q, rfl, p1⟩
    show OK (Bt_seasonsGo_2 (nI k) (nI k) q) _
    unfold Bt_seasonsGo_2
    have h9 : nI k ≤ nI k := by rw [nI_leI (by omega) (by omega)]; omega
    simp only [h9, reduceIte]
    exact ⟨_, rfl, _, rfl, p1⟩
section CMs
variable {g : CG} {c : CC} {X V s lo hi : Nat} {v : VD} {w : Nat → Int32}
theorem C_seasons {k n : Nat} (hx : CX g c X V v lo hi) (ht : CT g c X s v w) (hK : ∃ K π, RKp c s K π) (hn : w 0 = nI n) (hk : n + k ≤ 4000) : OK (f_c_X5_seasons g s (nI k) c) (fun o => o.1 = s ∧ CT g o.2 X s v (seasN v w k) ∧ CF X s c o.2 ∧ (∃ K π, RKp o.2 s K π) ∧ ∀ G, RH c s (vN v) G → RH o.2 s (vN v) (gainN v w G k)) := by
  have hb := hx.2.2.2.2.2.1
  have hr := ht.2.2.1.1
  unfold f_c_X5_seasons
  refine OK_bind (P := fun c' => CT g c' X s v (seasN v w k) ∧ CF X s c c' ∧ (∃ K π, RKp c' s K π) ∧ ∀ G, RH c s (vN v) G → RH c' s (vN v) (gainN v w G k)) ?_ (fun c' q => OK_some ⟨rfl, q⟩)
  refine itr_for (fun i p => ∃ c', p = (nI i, c') ∧ CT g c' X s v (seasN v w i) ∧ CF X s c c' ∧ (∃ K π, RKp c' s K π) ∧ ∀ G, RH c s (vN v) G → RH c' s (vN v) (gainN v w G i)) _ 0 k ?_ ?_ (by omega) (by omega) ⟨c, rfl, ht, CF.refl _ _ c, hK, fun _ h => h⟩
  · rintro i p - hi ⟨c', rfl, p1, p2, ⟨K, π, p3⟩, p4⟩
    show OK (Bc_X5_seasons_2 g s (nI k) (nI i) c') _
    unfold Bc_X5_seasons_2
    have h9 : ¬ nI k ≤ nI i := by rw [nI_leI (by omega) (by omega)]; omega
    have hx' := hx.cf ht.2.2.2 p2
    have h0 := seasN_0 hb hr hn i
    obtain ⟨⟨r, c''⟩, e, r1, r2, r3, r4, K', π', r5, -⟩ := C_passes (G := fun j => cA c' (s + 67) j) hx' p1 (fun _ _ => rfl) p3 h0 (by omega)
    simp only [h9, p1.1.1, e, xbd_some, reduceIte, nl_1, nI_add]
    refine ⟨_, rfl, Or.inl ⟨_, rfl, c'', rfl, ?_, p2.trans r4, ⟨K', π', r5⟩, fun G hG => ?_⟩⟩
    · show CT g c'' X s v (seasonW v true (seasN v w i) (fun _ => nI 0))
      rw [seasonW_G (G' := fun j => cA c' (s + 67) j)]; exact r2
    · obtain ⟨o', e3, -, -, q3, -⟩ := C_passes hx' p1 (p4 G hG) p3 h0 (by omega)
      have : o' = (r, c'') := by rw [e] at e3; exact (Option.some.inj e3).symm
      rw [this] at q3
      exact q3
  · rintro p ⟨c', rfl, p1⟩
    show OK (Bc_X5_seasons_2 g s (nI k) (nI k) c') _
    unfold Bc_X5_seasons_2
    have h9 : nI k ≤ nI k := by rw [nI_leI (by omega) (by omega)]; omega
    simp only [h9, reduceIte]
    exact ⟨_, rfl, _, rfl, p1⟩
/-- a willow more -/
def plS (w : Nat → Int32) (k : Nat) : Nat → Int32 := upd w (12 + k) (w (12 + k) + nI 1)
def cel (v : VD) (a : Nat) : Nat := 8 * (a / vW v) + a % vW v
theorem cel_b {a : Nat} (hb : VB v) (ha : a < vC v * vW v) : a / vW v < vC v ∧ a % vW v < vW v ∧ vC v ≤ 10 ∧ vW v ≤ 8 ∧ 0 < vW v ∧ a < 80 := by
  have h1 := hb.1
  have h2 := hb.2.1
  have h3 : 0 < vW v := by
    rcases Nat.eq_zero_or_pos (vW v) with e | e
    · rw [e, Nat.mul_zero] at ha; omega
    · exact e
  have h4 : vC v * vW v ≤ 10 * 8 := Nat.mul_le_mul h1 h2
  exact ⟨Nat.div_lt_of_lt_mul (by rw [Nat.mul_comm]; exact ha), Nat.mod_lt _ h3, h1, h2, h3, by omega⟩
theorem RS_wil {c' : CC} {nl k r : Nat} {x : Int32} (h : RS c' s nl w) (hk : k < 10) (hr : r < 8) : RS (uA c' (s + 5 + k) r x) s nl (upd w (12 + (8 * k + r)) x) := by
  obtain ⟨h1, h2, h3, h4, h5, h6⟩ := h
  refine ⟨by rw [cI_uA, pk_un (by omega)]; exact h1, by rw [cI_uA, pk_un (by omega)]; exact h2, fun i hi => ?_, fun i q hi hq => ?_, fun i q hi hq => ?_, fun j hj => ⟨?_, ?_⟩⟩
  · rw [cA_uA, if_neg (by omega), pk_un (by omega)]; exact h3 i hi
  · rw [cA_uA]
    by_cases e : i = k ∧ q = r
    · obtain ⟨e1, e2⟩ := e
      subst e1; subst e2
      rw [if_pos ⟨rfl, rfl⟩, pk_us]
    · rw [if_neg (by omega), pk_un (by omega)]; exact h4 i q hi hq
  · rw [cA_uA, if_neg (by omega), pk_un (by omega)]; exact h5 i q hi hq
  · rw [cA_uA, if_neg (by omega), pk_un (by omega)]; exact (h6 j hj).1
  · rw [cA_uA, if_neg (by omega), pk_un (by omega)]; exact (h6 j hj).2
theorem C_isFull {a : Nat} (hx : CX g c X V v lo hi) (ht : CT g c X s v w) (ha : a < vC v * vW v) : f_c_X0_isFull g X s (nI a) c = some (b32 (!decide (w (12 + cel v a) < nI 9)), c) := by
  obtain ⟨q1, q2, q3, q4, q5, q6⟩ := cel_b hx.2.2.2.2.2.1 ha
  obtain ⟨w1, w2, w3, w4⟩ := ht.1.2.2.2.2.2.1
  have hr := hx.b
  have hW : ¬ nI (vW v) = nI 0 := by rw [nI_eq (by omega) (by omega)]; omega
  have ed : nI a / nI (vW v) = nI (a / vW v) := nI_div (by omega) q5 (by omega)
  have er : nI a - nI (a / vW v) * nI (vW v) = nI (a % vW v) := by rw [← ed]; exact nI_rem (by omega) q5 (by omega)
  have ec : cel v a = 8 * (a / vW v) + a % vW v := rfl
  unfold f_c_X0_isFull
  generalize a / vW v = p at *
  generalize a % vW v = r at *
  simp only [ht.1.1, w1, w2, w3, hx.1, hx.2.1, hr.1, hr.2.2.1, Option.bind_some, reduceIte, nl_0, nl_1, nl_9, hW, not_false_eq_true, ed, er, xin_nI (show p < 10 by omega) (by omega), nI_clamp (show p < 2 ^ 31 by omega), nI_clamp (show r < 2 ^ 31 by omega), (w4 (p) (by omega)).1, (w4 (p) (by omega)).2.1, (w4 (p) (by omega)).2.2, xin_nI (show r < 8 by omega) (show 8 < 2147483648 by omega), ht.2.1.2.2.2.1 (p) (r) (by omega) (by omega)]
  rw [ec]
  by_cases e : w (12 + (8 * p + r)) < nI 9 <;> simp [e, b32]
theorem C_plants {a m : Nat} (hx : CX g c X V v lo hi) (ht : CT g c X s v w) (ha : a < vC v * vW v) (hm : m ≤ 50) (hw : w (12 + cel v a) = nI m) : OK (f_c_X0_plants g X s (nI a) c) (fun c' => CT g c' X s v (plS w (cel v a)) ∧ CF X s c c' ∧ KS s c c' ∧ ∀ j, cA c' (s + 67) j = cA c (s + 67) j) := by
  obtain ⟨q1, q2, q3, q4, q5, q6⟩ := cel_b hx.2.2.2.2.2.1 ha
  obtain ⟨w1, w2, w3, w4⟩ := ht.1.2.2.2.2.2.1
  have hr := hx.b
  have hW : ¬ nI (vW v) = nI 0 := by rw [nI_eq (by omega) (by omega)]; omega
  have ed : nI a / nI (vW v) = nI (a / vW v) := nI_div (by omega) q5 (by omega)
  have er : nI a - nI (a / vW v) * nI (vW v) = nI (a % vW v) := by rw [← ed]; exact nI_rem (by omega) q5 (by omega)
  have ec : cel v a = 8 * (a / vW v) + a % vW v := rfl
  unfold f_c_X0_plants
  generalize a / vW v = p at *
  generalize a % vW v = r at *
  simp only [ht.1.1, w1, w2, w3, hx.1, hx.2.1, hr.1, hr.2.2.1, Option.bind_some, reduceIte, nl_0, nl_1, hW, not_false_eq_true, ed, er, xin_nI (show p < 10 by omega) (by omega), nI_clamp (show p < 2 ^ 31 by omega), nI_clamp (show r < 2 ^ 31 by omega), (w4 (p) (by omega)).1, (w4 (p) (by omega)).2.1, (w4 (p) (by omega)).2.2, xin_nI (show r < 8 by omega) (show 8 < 2147483648 by omega), ht.2.1.2.2.2.1 (p) (r) (by omega) (by omega)]
  rw [← ec]
  refine ⟨_, rfl, ⟨ht.1, by unfold plS; rw [ec]; exact RS_wil ht.2.1 (by omega) (by omega), ?_, ht.2.2.2⟩, (CF.refl _ _ c).uA (by omega), (KS.refl s c).uA (by omega), fun j => ?_⟩
  · obtain ⟨b1, b2, b3, b4, b5⟩ := ht.2.2.1
    have hc80 : cel v a < 80 := by omega
    show WB v (upd w (12 + cel v a) (w (12 + cel v a) + nI 1))
    refine ⟨fun k hk => ?_, ?_, fun k hk => ?_, fun k hk => ?_, fun k hk => ?_⟩
    · rw [pk_un (by omega)]; exact b1 k hk
    · rw [pk_un (by omega)]; exact b2
    · by_cases e : k = cel v a
      · subst e; rw [pk_us, hw, nI_add]; exact ⟨m + 1, by omega, rfl⟩
      · rw [pk_un (by omega)]; exact b3 k hk
    · rw [pk_un (by omega)]; exact b4 k hk
    · rw [pk_un (by omega), pk_un (by omega)]; exact b5 k hk
  · rw [cA_uA, if_neg (by omega)]
theorem C_places (hx : CX g c X V v lo hi) : f_c_X0_places g X c = some (nI (vC v * vW v), c) := by
  have hr := hx.b
  unfold f_c_X0_places
  simp only [C_columns hx.1 hx.2.1 hr, hx.1, hx.2.1, hr.1, hr.2.2.1, xbd_some, Option.bind_some, reduceIte, pk_mul]
end CMs
