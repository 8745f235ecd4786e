/-! PLAIN LAW: octet, see -/
set_option maxRecDepth 100000
section ZIs
variable {g : CG} {c c' : CC} {τ τ' q : TS} {X V s lo hi n m : Nat} {v : VD} {w : Nat → Int32}
theorem I_octet {x : Int32} (h1 : gT g X = 1) (hg : OG g X) (h : OC c τ X) : OK2 (f_c_X0_octet g X x c) (f_t_octet x τ) (RD X c τ) := by
  obtain ⟨m, hm, e1, e2, e3⟩ := h
  have j1 : Jc_X0_octet_12 g c = some (-1, c) := rfl
  have j2 : Jt_octet_21 τ = some (-1, τ) := rfl
  unfold f_c_X0_octet f_t_octet
  rw [j1, j2, e1, e2]
  by_cases h0 : x < 0
  · rw [if_pos h0, if_pos h0]; exact OK2_some RD.mk
  · rw [if_neg h0, if_neg h0, if_pos h1]
    by_cases hx : x < nI m
    · have a1 : nI 0 ≤ x := by rw [i32_le]; have h0 : ¬ x < nI 0 := h0; rw [i32_lt] at h0; omega
      obtain ⟨k, hk, rfl⟩ := nI_lto (by omega) a1 hx
      have hx2 : ¬ nI m ≤ nI k := by rw [nI_leI (by omega) (by omega)]; omega
      rw [if_pos hx, if_neg hx2, hg.1, Option.bind_some, if_pos hg.2.1, hg.2.2, if_pos (xin_nI (show k < 191 by omega) (by omega)), if_pos (xin_nI (show k < 191 by omega) (by omega)), nI_clamp (show k < 2 ^ 31 by omega), e3 k hk]
      exact OK2_some RD.mk
    · have hx2 : nI m ≤ x := by rw [i32_le]; rw [i32_lt] at hx; omega
      rw [if_neg hx, if_pos hx2]; exact OK2_some RD.mk
theorem C_byteAt {k : Nat} (h1 : gT g X = 1) (hg : TG g X) (hk : k < 1600) : f_c_X0_byteAt g X (nI k) c = some (cA c (X + 27) k &&& 255, c) := by
  unfold f_c_X0_byteAt
  rw [if_pos h1, hg.1, Option.bind_some, if_pos hg.2.1, hg.2.2, if_pos (xin_nI hk (by omega)), nI_clamp (show k < 2 ^ 31 by omega)]
theorem C_taken (h1 : gT g X = 1) (h : cI c 102 X = nI n) : f_c_X0_taken g X c = some (nI n, uI c 102 X (nI 0)) := by
  unfold f_c_X0_taken
  rw [if_pos h1, h]; rfl
/-- bytes are small -/
theorem byte_sm (x : Int32) : ∃ k, k < 256 ∧ x &&& 255 = nI k := by
  have h : (x &&& 255).toBitVec.toNat < 256 := by
    rw [Int32.toBitVec_and, BitVec.toNat_and]
    exact Nat.lt_of_le_of_lt Nat.and_le_right (by decide)
  refine ⟨(x &&& 255).toBitVec.toNat, h, ?_⟩
  apply Int32.toBitVec_inj.mp
  apply BitVec.eq_of_toNat_eq
  unfold nI
  simp
theorem TB.sm (h : TB c τ X) {i : Nat} (hi : i < 1600) : ∃ k, k < 256 ∧ tA τ 0 i = nI k := by
  obtain ⟨k, hk, e⟩ := byte_sm (cA c (X + 27) i)
  exact ⟨k, hk, by rw [← (h i hi).1, e]⟩
/-- a row that may be seen -/
def gdS (v : VD) (τ : TS) (j : Nat) : Prop := ∃ s a b, s ≤ 30 ∧ a < vC v ∧ b < vW v ∧ tA τ 0 (3 * j) = nI s ∧ tA τ 0 (3 * j + 1) = nI a ∧ tA τ 0 (3 * j + 2) = nI b
theorem see_0C {x : Int32} (h1 : gT g X = 1) (hr : RG g X) : Jc_X0_see_26 g X x 0 c = some (-1, uA c (X + 34) 1 (cA c (X + 34) 1 + nI 1)) := by
  have e : Bc_X0_see_29 g X x 0 0 c = some (.inr (0, c)) := by
    unfold Bc_X0_see_29
    by_cases hx : x ≤ 0
    · rw [if_pos hx]
    · rw [if_neg hx, if_pos rfl]
  unfold Jc_X0_see_26
  rw [show (4096 : Nat) = 4095 + 1 from rfl, itr_inr (b := (0, c)) e, Option.bind_some]
  unfold Jc_X0_see_81
  rw [if_pos rfl, if_pos h1, nl_1, C_refuses h1 hr (by omega), xbd_some]
  rfl
theorem see_0T {x : Int32} : Jt_see_40 x 0 τ = some (-1, sA τ 9 1 (tA τ 9 1 + nI 1)) := by
  have e : Bt_see_43 x 0 0 τ = some (.inr (0, τ)) := by
    unfold Bt_see_43
    by_cases hx : x ≤ 0
    · rw [if_pos hx]
    · rw [if_neg hx, if_pos rfl]
  unfold Jt_see_40
  rw [show (4096 : Nat) = 4095 + 1 from rfl, itr_inr (b := (0, τ)) e, Option.bind_some]
  unfold Jt_see_98
  rw [if_pos rfl, nl_1, T_refuses (by omega), xbd_some]
  rfl
theorem see_loop {N : Nat} (hx : CX g c X V v lo hi) (hg : TG g X) (hT : TV τ v) (hB : TB c τ X) (hN : N ≤ 16) :
    OK2 (itr (fun s_ : Int32 × Int32 × CC => Bc_X0_see_29 g X (nI (3 * N)) s_.1 s_.2.1 s_.2.2) 4096 (1, 0, c)) (itr (fun s_ : Int32 × Int32 × TS => Bt_see_43 (nI (3 * N)) s_.1 s_.2.1 s_.2.2) 4096 (1, 0, τ)) (fun o r => o.2 = c ∧ r.2 = τ ∧ ((o.1 = 0 ∧ r.1 = 0) ∨ (o.1 = 1 ∧ r.1 = 1 ∧ ∀ j, j < N → gdS v τ j))) := by
  have hb := hx.2.2.2.2.2.1
  have hb1 := hb.1
  have hb2 := hb.2.1
  refine itr_two (fun i s t => (s = (0, nI (3 * i), c) ∧ t = (0, nI (3 * i), τ)) ∨ (s = (1, nI (3 * i), c) ∧ t = (1, nI (3 * i), τ) ∧ ∀ j, j < i → gdS v τ j)) _ 0 N ?_ ?_ (by omega) (by omega) (Or.inr ⟨rfl, rfl, fun j hj => by omega⟩)
  · rintro i s t - hi (⟨rfl, rfl⟩ | ⟨rfl, rfl, hj⟩)
    · show OK2 (Bc_X0_see_29 g X (nI (3 * N)) 0 (nI (3 * i)) c) (Bt_see_43 (nI (3 * N)) 0 (nI (3 * i)) τ) _
      have h9 : ¬ nI (3 * N) ≤ nI (3 * i) := by rw [nI_leI (by omega) (by omega)]; omega
      unfold Bc_X0_see_29 Bt_see_43
      rw [if_neg h9, if_neg h9, if_pos rfl, if_pos rfl]
      exact OK2_some (Or.inr ⟨_, _, rfl, rfl, rfl, rfl, Or.inl ⟨rfl, rfl⟩⟩)
    · show OK2 (Bc_X0_see_29 g X (nI (3 * N)) 1 (nI (3 * i)) c) (Bt_see_43 (nI (3 * N)) 1 (nI (3 * i)) τ) _
      have h9 : ¬ nI (3 * N) ≤ nI (3 * i) := by rw [nI_leI (by omega) (by omega)]; omega
      have hne : ¬ (1 : Int32) = 0 := by decide
      have e3 : nI (3 * i) + nI 3 = nI (3 * (i + 1)) := by rw [nI_add]; rfl
      obtain ⟨k0, hk0, e0⟩ := hB.sm (i := 3 * i) (by omega)
      obtain ⟨k1, hk1, e1⟩ := hB.sm (i := 3 * i + 1) (by omega)
      obtain ⟨k2, hk2, e2⟩ := hB.sm (i := 3 * i + 2) (by omega)
      have z0 : OK2 (Jc_X0_see_73 g X (nI (3 * N)) (nI (3 * i)) c) (Jt_see_90 (nI (3 * N)) (nI (3 * i)) τ) (fun o p => (∃ s' t', o = .inl s' ∧ p = .inl t' ∧ ((s' = (0, nI (3 * (i + 1)), c) ∧ t' = (0, nI (3 * (i + 1)), τ)) ∨ (s' = (1, nI (3 * (i + 1)), c) ∧ t' = (1, nI (3 * (i + 1)), τ) ∧ ∀ j, j < i + 1 → gdS v τ j))) ∨ ∃ r r', o = .inr r ∧ p = .inr r' ∧ (r.2 = c ∧ r'.2 = τ ∧ ((r.1 = 0 ∧ r'.1 = 0) ∨ (r.1 = 1 ∧ r'.1 = 1 ∧ ∀ j, j < N → gdS v τ j)))) := by
        unfold Jc_X0_see_73 Jt_see_90 Jc_X0_see_74 Jt_see_91
        rw [nl_3, e3]
        exact OK2_some (Or.inl ⟨_, _, rfl, rfl, Or.inl ⟨rfl, rfl⟩⟩)
      unfold Bc_X0_see_29 Bt_see_43
      rw [if_neg h9, if_neg h9, if_neg hne, if_neg hne, if_pos hx.1, C_byteAt hx.1 hg (by omega), xbd_some, (hB (3 * i) (by omega)).1, if_pos (xin_nI (show 3 * i < 1600 by omega) (by omega)), nI_clamp (show 3 * i < 2 ^ 31 by omega), e0, nl_30]
      by_cases h30 : nI 30 < nI k0
      · rw [if_pos h30, if_pos h30]; exact z0
      · rw [if_neg h30, if_neg h30, nl_1, nl_2, nI_add, nI_add, C_byteAt hx.1 hg (by omega), xbd_some, C_byteAt hx.1 hg (by omega), xbd_some, (hB (3 * i + 1) (by omega)).1, (hB (3 * i + 2) (by omega)).1, if_pos (xin_nI (show 3 * i + 1 < 1600 by omega) (by omega)), if_pos (xin_nI (show 3 * i + 2 < 1600 by omega) (by omega)), nI_clamp (show 3 * i + 1 < 2 ^ 31 by omega), nI_clamp (show 3 * i + 2 < 2 ^ 31 by omega), C_isCell hx, xbd_some, T_isCell hT.1 hb, xbd_some]
        cases hz : (decide (nI 0 ≤ tA τ 0 (3 * i + 1)) && decide (tA τ 0 (3 * i + 1) < nI (vC v)) && (decide (nI 0 ≤ tA τ 0 (3 * i + 2)) && decide (tA τ 0 (3 * i + 2) < nI (vW v)))) with
        | false => rw [if_pos (show b32 false = 0 by decide), if_pos (show b32 false = 0 by decide)]; exact z0
        | true =>
          rw [if_neg (show ¬ b32 true = 0 by decide), if_neg (show ¬ b32 true = 0 by decide)]
          simp only [Bool.and_eq_true, decide_eq_true_eq] at hz
          unfold Jc_X0_see_74 Jt_see_91
          rw [nl_3, e3]
          refine OK2_some (Or.inl ⟨_, _, rfl, rfl, Or.inr ⟨rfl, rfl, fun j hj2 => ?_⟩⟩)
          by_cases ej : j = i
          · subst ej
            rw [nI_ltI (by omega) (by omega)] at h30
            have q1 := hz.1.2
            have q2 := hz.2.2
            rw [e1, nI_ltI (by omega) (by omega)] at q1
            rw [e2, nI_ltI (by omega) (by omega)] at q2
            exact ⟨k0, k1, k2, by omega, q1, q2, e0, e1, e2⟩
          · exact hj j (by omega)
  · rintro s t (⟨rfl, rfl⟩ | ⟨rfl, rfl, hj⟩)
    · show OK2 (Bc_X0_see_29 g X (nI (3 * N)) 0 (nI (3 * N)) c) (Bt_see_43 (nI (3 * N)) 0 (nI (3 * N)) τ) _
      have h9 : nI (3 * N) ≤ nI (3 * N) := by rw [nI_leI (by omega) (by omega)]; omega
      unfold Bc_X0_see_29 Bt_see_43
      rw [if_pos h9, if_pos h9]
      exact OK2_some ⟨_, _, rfl, rfl, rfl, rfl, Or.inl ⟨rfl, rfl⟩⟩
    · show OK2 (Bc_X0_see_29 g X (nI (3 * N)) 1 (nI (3 * N)) c) (Bt_see_43 (nI (3 * N)) 1 (nI (3 * N)) τ) _
      have h9 : nI (3 * N) ≤ nI (3 * N) := by rw [nI_leI (by omega) (by omega)]; omega
      unfold Bc_X0_see_29 Bt_see_43
      rw [if_pos h9, if_pos h9]
      exact OK2_some ⟨_, _, rfl, rfl, rfl, rfl, Or.inr ⟨rfl, rfl, hj⟩⟩
theorem see_layC {N : Nat} (h1 : gT g X = 1) (hg : TG g X) (hs : SWG g X) (h118 : cI c 118 X = nI N) (hN : N ≤ 16) :
    OK (itr (fun s_ : Int32 × CC => Bc_X0_see_100 g X s_.1 s_.2) 4096 (0, c)) (fun c' => (∀ j, j < N → cA c' (X + 297) j = cA c (X + 27) (3 * j) &&& 255 ∧ cA c' (X + 298) j = cA c (X + 27) (3 * j + 1) &&& 255 ∧ cA c' (X + 299) j = cA c (X + 27) (3 * j + 2) &&& 255) ∧ ∀ a, ¬ (X + 297 ≤ a ∧ a < X + 300) → Eq1 c c' a) := by
  refine itr_for (fun k s => ∃ c', s = (nI k, c') ∧ (∀ j, j < k → cA c' (X + 297) j = cA c (X + 27) (3 * j) &&& 255 ∧ cA c' (X + 298) j = cA c (X + 27) (3 * j + 1) &&& 255 ∧ cA c' (X + 299) j = cA c (X + 27) (3 * j + 2) &&& 255) ∧ ∀ a, ¬ (X + 297 ≤ a ∧ a < X + 300) → Eq1 c c' a) _ 0 N ?_ ?_ (by omega) (by omega) ⟨c, rfl, fun j hj => by omega, fun a _ => Eq1.refl c a⟩
  · rintro k s - hk ⟨c', rfl, p1, p2⟩
    show OK (Bc_X0_see_100 g X (nI k) c') _
    have h9 : ¬ nI N ≤ nI k := by rw [nI_leI (by omega) (by omega)]; omega
    have eT : ∀ i, cA c' (X + 27) i = cA c (X + 27) i := (p2 (X + 27) (by omega)).2.2.2.1
    unfold Bc_X0_see_100
    rw [if_pos h1, (p2 X (by omega)).1 118, h118, if_neg h9, hs.1.1, Option.bind_some, nl_3, pk_mul, C_byteAt h1 hg (by omega), xbd_some, if_pos hs.1.2.1, hs.1.2.2, if_pos (xin_nI (show k < 16 by omega) (by omega)), hs.2.1.1, Option.bind_some, nl_1, nl_2, nI_add, nI_add, nI_add, C_byteAt h1 hg (by omega), xbd_some, if_pos hs.2.1.2.1, hs.2.1.2.2, if_pos (xin_nI (show k < 16 by omega) (by omega)), hs.2.2.1, Option.bind_some, C_byteAt h1 hg (by omega), xbd_some, if_pos hs.2.2.2.1, hs.2.2.2.2, if_pos (xin_nI (show k < 16 by omega) (by omega)), nI_clamp (show k < 2 ^ 31 by omega)]
    refine OK_some (Or.inl ⟨_, rfl, _, rfl, fun j hj => ?_, fun a ha => (((p2 a ha).uA (by omega)).uA (by omega)).uA (by omega)⟩)
    simp only [cA_uA, show ¬ X + 297 = X + 299 by omega, show ¬ X + 297 = X + 298 by omega, show ¬ X + 298 = X + 299 by omega, show ¬ X + 298 = X + 297 by omega, show ¬ X + 299 = X + 298 by omega, show ¬ X + 299 = X + 297 by omega, show ¬ X + 27 = X + 297 by omega, show ¬ X + 27 = X + 298 by omega, show ¬ X + 27 = X + 299 by omega, false_and, true_and, reduceIte, eT]
    by_cases ej : j = k
    · subst ej; simp only [reduceIte]; exact ⟨trivial, trivial, trivial⟩
    · simp only [ej, reduceIte]; exact p1 j (by omega)
  · rintro s ⟨c', rfl, p1, p2⟩
    show OK (Bc_X0_see_100 g X (nI N) c') _
    have h9 : nI N ≤ nI N := by rw [nI_leI (by omega) (by omega)]; omega
    unfold Bc_X0_see_100
    rw [if_pos h1, (p2 X (by omega)).1 118, h118, if_pos h9]
    exact OK_some ⟨_, rfl, p1, p2⟩
def in80 (k : Nat) : Bool := k == 80
theorem see_layT (hn : n ≤ 48) :
    OK (itr (fun s_ : Int32 × TS => Bt_see_110 (nI n) s_.1 s_.2) 4096 (0, τ)) (fun q => (∀ j, j < n → tA q 80 j = tA τ 0 j) ∧ TX no in80 τ q) := by
  refine itr_for (fun k s => ∃ q, s = (nI k, q) ∧ (∀ j, j < k → tA q 80 j = tA τ 0 j) ∧ TX no in80 τ q) _ 0 n ?_ ?_ (by omega) (by omega) ⟨τ, rfl, fun j hj => by omega, TX.refl _ _ τ⟩
  · rintro k s - hk ⟨q, rfl, p1, p2⟩
    show OK (Bt_see_110 (nI n) (nI k) q) _
    have h9 : ¬ nI n ≤ nI k := by rw [nI_leI (by omega) (by omega)]; omega
    unfold Bt_see_110
    rw [if_neg h9, if_pos (xin_nI (show k < 1600 by omega) (by omega)), if_pos (xin_nI (show k < 48 by omega) (by omega)), nI_clamp (show k < 2 ^ 31 by omega), nl_1, nI_add]
    refine OK_some (Or.inl ⟨_, rfl, _, rfl, fun j hj => ?_, p2.sA rfl⟩)
    rw [tA_sA]
    by_cases ej : j = k
    · subst ej; rw [if_pos ⟨rfl, rfl⟩, p2.2.2.1 0 j rfl]
    · rw [if_neg (fun z => ej z.2)]; exact p1 j (by omega)
  · rintro s ⟨q, rfl, p1, p2⟩
    show OK (Bt_see_110 (nI n) (nI n) q) _
    have h9 : nI n ≤ nI n := by rw [nI_leI (by omega) (by omega)]; omega
    unfold Bt_see_110
    rw [if_pos h9]
    exact OK_some ⟨_, rfl, p1, p2⟩
def in179 (k : Nat) : Bool := k == 1 || k == 79
/-- see: refused with the tape taken, or rows anew -/
theorem I_see (hx : CX g c X V v lo hi) (hg : TG g X) (hr : RG g X) (hs : SWG g X) (hT : TV τ v) (h : TPE c τ X) : OK2 (f_c_X0_see g X c) (f_t_see τ) (fun o r => o.1 = r.1 ∧ ((o.2 = uA (uI c 102 X (nI 0)) (X + 34) 1 (cA c (X + 34) 1 + nI 1) ∧ r.2 = sA (sI τ 1 (nI 0)) 9 1 (tA τ 9 1 + nI 1)) ∨ (SW o.2 r.2 X v ∧ cI o.2 102 X = nI 0 ∧ tI r.2 1 = nI 0 ∧ (∀ k, k ≠ 102 → k ≠ 118 → cI o.2 k X = cI c k X) ∧ (∀ k, cL o.2 k X = cL c k X) ∧ (∀ k, cR o.2 k X = cR c k X) ∧ (∀ a, a ≠ X → ¬ (X + 297 ≤ a ∧ a < X + 300) → Eq1 c o.2 a) ∧ TX in179 in80 τ r.2))) := by
  obtain ⟨n, hn, e1, e2, e3⟩ := h
  have hb := hx.2.2.2.2.2.1
  have hx2 : CX g (uI c 102 X (nI 0)) X V v lo hi := hx.of2 rfl (fun a a1 _ => (Eq1.refl c a).uI a1)
  have hT2 : TV (sI τ 1 (nI 0)) v := hT.of rfl rfl (fun _ _ _ => rfl)
  have rC : ∀ x, Jc_X0_see_25 g X x (uI c 102 X (nI 0)) = some (-1, uA (uI c 102 X (nI 0)) (X + 34) 1 (cA c (X + 34) 1 + nI 1)) := fun x => by
    unfold Jc_X0_see_25; exact see_0C hx.1 hr
  have rT : ∀ x, Jt_see_39 x (sI τ 1 (nI 0)) = some (-1, sA (sI τ 1 (nI 0)) 9 1 (tA τ 9 1 + nI 1)) := fun x => by
    unfold Jt_see_39; exact see_0T
  have rB : OK2 (some ((-1 : Int32), uA (uI c 102 X (nI 0)) (X + 34) 1 (cA c (X + 34) 1 + nI 1))) (some ((-1 : Int32), sA (sI τ 1 (nI 0)) 9 1 (tA τ 9 1 + nI 1))) (fun o r => o.1 = r.1 ∧ ((o.2 = uA (uI c 102 X (nI 0)) (X + 34) 1 (cA c (X + 34) 1 + nI 1) ∧ r.2 = sA (sI τ 1 (nI 0)) 9 1 (tA τ 9 1 + nI 1)) ∨ (SW o.2 r.2 X v ∧ cI o.2 102 X = nI 0 ∧ tI r.2 1 = nI 0 ∧ (∀ k, k ≠ 102 → k ≠ 118 → cI o.2 k X = cI c k X) ∧ (∀ k, cL o.2 k X = cL c k X) ∧ (∀ k, cR o.2 k X = cR c k X) ∧ (∀ a, a ≠ X → ¬ (X + 297 ≤ a ∧ a < X + 300) → Eq1 c o.2 a) ∧ TX in179 in80 τ r.2))) := OK2_some ⟨rfl, Or.inl ⟨rfl, rfl⟩⟩
  have l0 := see_loop (N := n / 3) hx2 hg hT2 e3
  unfold f_c_X0_see f_t_see
  rw [if_pos hx.1, C_taken hx.1 e1, xbd_some, nl_0, tI_sI, if_neg (show ¬ (60 : Nat) = 1 by omega), e2, hT.1.1]
  rw [rC, rT]
  by_cases g1 : nI n ≤ nI 0
  · rw [if_pos g1]
    by_cases g0 : b32 (decide (0 < vC v)) = nI 0
    · rw [if_pos g0]; exact rB
    · rw [if_neg g0, if_pos g1]; exact rB
  · rw [if_neg g1, nl_3, nI_rem (by omega) (by omega) (by omega), nI_div (by omega) (by omega) (by omega), nl_48, nl_16, if_neg g1]
    rw [nI_leI (by omega) (by omega)] at g1
    by_cases g2 : nI (n % 3) = nI 0
    · rw [if_pos g2, if_pos g2]
      rw [nI_eq (by omega) (by omega)] at g2
      by_cases g3 : nI 48 < nI n
      · have g4 : nI 16 < nI (n / 3) := by rw [nI_ltI (by omega) (by omega)] at g3 ⊢; omega
        rw [if_pos g3, if_pos g4]
        by_cases g0 : b32 (decide (0 < vC v)) = nI 0
        · rw [if_pos g0]; exact rB
        · rw [if_neg g0]; exact rB
      · have g4 : ¬ nI 16 < nI (n / 3) := by rw [nI_ltI (by omega) (by omega)] at g3 ⊢; omega
        rw [if_neg g3, if_neg g4]
        rw [nI_ltI (by omega) (by omega)] at g3
        obtain ⟨⟨o1, o2⟩, ⟨r1, r2⟩, d1, d2, p1, p2, p3⟩ := l0 (by omega)
        have en : 3 * (n / 3) = n := by omega
        rw [en] at d1 d2
        have p1 : o2 = uI c 102 X (nI 0) := p1
        have p2 : r2 = sI τ 1 (nI 0) := p2
        subst p1 p2
        by_cases g0 : b32 (decide (0 < vC v)) = nI 0
        · rw [if_pos g0]
          have hv : ¬ 0 < vC v := by rw [b32_0] at g0; simpa using g0
          have d3 : Jc_X0_see_26 g X (nI n) (nI 1) (uI c 102 X (nI 0)) = some (-1, uA (uI c 102 X (nI 0)) (X + 34) 1 (cA c (X + 34) 1 + nI 1)) := by
            unfold Jc_X0_see_26
            rw [show (nI 1, (0 : Int32), uI c 102 X (nI 0)) = (1, 0, uI c 102 X (nI 0)) from rfl, d1, Option.bind_some]
            rcases p3 with ⟨z1, z2⟩ | ⟨z1, z2, z3⟩
            · have z1 : o1 = 0 := z1
              subst z1
              show Jc_X0_see_81 g X (nI n) 0 (uI c 102 X (nI 0)) = _
              unfold Jc_X0_see_81
              rw [if_pos rfl, if_pos hx.1, nl_1, C_refuses hx.1 hr (by omega), xbd_some]; rfl
            · obtain ⟨s', a, b, -, ha, -⟩ := z3 0 (by omega)
              omega
          rw [nl_1, d3]; exact rB
        · rw [if_neg g0]
          unfold Jc_X0_see_26 Jt_see_40
          rw [d1, d2, Option.bind_some, Option.bind_some]
          rcases p3 with ⟨z1, z2⟩ | ⟨z1, z2, z3⟩
          · have z1 : o1 = 0 := z1
            have z2 : r1 = 0 := z2
            subst z1 z2
            show OK2 (Jc_X0_see_81 g X (nI n) 0 (uI c 102 X (nI 0))) (Jt_see_98 (nI n) 0 (sI τ 1 (nI 0))) _
            unfold Jc_X0_see_81 Jt_see_98
            rw [if_pos rfl, if_pos rfl, if_pos hx.1, nl_1, C_refuses hx.1 hr (by omega), xbd_some, T_refuses (by omega), xbd_some]
            exact rB
          · have z1 : o1 = 1 := z1
            have z2 : r1 = 1 := z2
            subst z1 z2
            show OK2 (Jc_X0_see_81 g X (nI n) 1 (uI c 102 X (nI 0))) (Jt_see_98 (nI n) 1 (sI τ 1 (nI 0))) _
            unfold Jc_X0_see_81 Jt_see_98
            have hne : ¬ (1 : Int32) = 0 := by decide
            obtain ⟨c3, u1, u2, u3⟩ := see_layC (c := uI (uI c 102 X (nI 0)) 118 X (nI (n / 3))) (N := n / 3) hx.1 hg hs (by rw [cI_uI, if_pos ⟨rfl, rfl⟩]) (by omega)
            obtain ⟨q3, w1, w2, w3⟩ := see_layT (τ := sI τ 1 (nI 0)) (n := n) (by omega)
            rw [if_neg hne, if_neg hne, if_pos hx.1, nl_3, nI_div (by omega) (by omega) (by omega), u1, w1, Option.bind_some, Option.bind_some, tI_sI, if_pos rfl, (u3 X (by omega)).1 118, cI_uI, if_pos ⟨rfl, rfl⟩]
            refine OK2_some ⟨rfl, Or.inr ⟨⟨n / 3, by omega, ?_, by rw [tI_sI, if_pos rfl], fun k hk => ?_⟩, ?_, ?_, fun k k1 k2 => ?_, fun k => (u3 X (by omega)).2.1 k, fun k => (u3 X (by omega)).2.2.1 k, fun a a1 a2 => ?_, ?_⟩⟩
            · show cI c3 118 X = _
              rw [(u3 X (by omega)).1 118, cI_uI, if_pos ⟨rfl, rfl⟩]
            · obtain ⟨s', a, b, y1, y2, y3, y4, y5, y6⟩ := z3 k hk
              obtain ⟨v1, v2, v3⟩ := u2 k hk
              refine ⟨s', a, b, y1, y2, y3, ⟨?_, ?_, ?_⟩, ?_, ?_, ?_⟩
              · show cA c3 (X + 297) k = _
                rw [v1, ← y4]; exact (e3 (3 * k) (by omega)).1
              · show cA c3 (X + 298) k = _
                rw [v2, ← y5]; exact (e3 (3 * k + 1) (by omega)).1
              · show cA c3 (X + 299) k = _
                rw [v3, ← y6]; exact (e3 (3 * k + 2) (by omega)).1
              · rw [tA_sI, w2 _ (by omega)]; exact y4
              · rw [tA_sI, w2 _ (by omega)]; exact y5
              · rw [tA_sI, w2 _ (by omega)]; exact y6
            · show cI c3 102 X = _
              rw [(u3 X (by omega)).1 102, cI_uI, if_neg (by omega), cI_uI, if_pos ⟨rfl, rfl⟩]
            · rw [tI_sI, if_neg (by omega), w3.1 1 rfl rfl, tI_sI, if_pos rfl]
            · show cI c3 k X = _
              rw [(u3 X (by omega)).1 k, cI_uI, if_neg (fun z => k2 z.1), cI_uI, if_neg (fun z => k1 z.1)]
            · exact (((Eq1.refl c a).uI a1).uI a1).trans (u3 a a2)
            · refine TX.sI (TX.trans ((TX.refl in179 in80 τ).sI (Or.inl rfl)) (w3.mono (fun k hk => rfl) (fun k hk => hk))) (Or.inl rfl)
    · rw [if_neg g2, if_neg g2]
      by_cases g0 : b32 (decide (0 < vC v)) = nI 0
      · rw [if_pos g0]; exact rB
      · rw [if_neg g0]; exact rB
end ZIs
