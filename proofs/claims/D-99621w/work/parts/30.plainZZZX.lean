/-! PLAIN LAW: names, of both -/
set_option maxRecDepth 100000
def ownN (P : Nat → Bool) (τ : TS) : Nat → Nat → Option (Int32 × TS)
  | 0, _ => some (0, τ)
  | d + 1, k => if P k = true then some (1, τ) else ownN P τ d (k + 1)
theorem ownN_t {P : Nat → Bool} {τ : TS} : ∀ d k, (∃ j, k ≤ j ∧ j < k + d ∧ P j = true) → ownN P τ d k = some (1, τ)
  | 0, k, h => by obtain ⟨j, h1, h2, -⟩ := h; omega
  | d + 1, k, h => by
    show (if P k = true then some (1, τ) else ownN P τ d (k + 1)) = _
    by_cases e : P k = true
    · rw [if_pos e]
    · rw [if_neg e]
      obtain ⟨j, h1, h2, h3⟩ := h
      refine ownN_t d (k + 1) ⟨j, ?_, by omega, h3⟩
      by_cases ej : j = k
      · rw [ej] at h3; exact absurd h3 e
      · omega
theorem ownN_f {P : Nat → Bool} {τ : TS} : ∀ d k, (∀ j, k ≤ j → j < k + d → P j = false) → ownN P τ d k = some (0, τ)
  | 0, k, h => rfl
  | d + 1, k, h => by
    show (if P k = true then some (1, τ) else ownN P τ d (k + 1)) = _
    rw [if_neg (by rw [h k (by omega) (by omega)]; decide)]
    exact ownN_f d (k + 1) (fun j h1 h2 => h j (by omega) (by omega))
theorem if_b {α : Type} {b : Bool} {A K : α} : (if b32 b = 0 then A else K) = if b = true then K else A := by
  cases b
  · rw [if_pos (show b32 false = 0 by decide), if_neg (by decide)]
  · rw [if_neg (show ¬ b32 true = 0 by decide), if_pos rfl]
theorem T_ownE {P : Nat → Bool} {τ : TS} (ee : ∀ i, i < 33 → f_t_isHere (11 + i) τ = some (b32 (P i), τ)) : f_t_isOwnHere τ = ownN P τ 33 0 := by
  have h11 : f_t_isHere 11 τ = some (b32 (P 0), τ) := ee 0 (by omega)
  have h12 : f_t_isHere 12 τ = some (b32 (P 1), τ) := ee 1 (by omega)
  have h13 : f_t_isHere 13 τ = some (b32 (P 2), τ) := ee 2 (by omega)
  have h14 : f_t_isHere 14 τ = some (b32 (P 3), τ) := ee 3 (by omega)
  have h15 : f_t_isHere 15 τ = some (b32 (P 4), τ) := ee 4 (by omega)
  have h16 : f_t_isHere 16 τ = some (b32 (P 5), τ) := ee 5 (by omega)
  have h17 : f_t_isHere 17 τ = some (b32 (P 6), τ) := ee 6 (by omega)
  have h18 : f_t_isHere 18 τ = some (b32 (P 7), τ) := ee 7 (by omega)
  have h19 : f_t_isHere 19 τ = some (b32 (P 8), τ) := ee 8 (by omega)
  have h20 : f_t_isHere 20 τ = some (b32 (P 9), τ) := ee 9 (by omega)
  have h21 : f_t_isHere 21 τ = some (b32 (P 10), τ) := ee 10 (by omega)
  have h22 : f_t_isHere 22 τ = some (b32 (P 11), τ) := ee 11 (by omega)
  have h23 : f_t_isHere 23 τ = some (b32 (P 12), τ) := ee 12 (by omega)
  have h24 : f_t_isHere 24 τ = some (b32 (P 13), τ) := ee 13 (by omega)
  have h25 : f_t_isHere 25 τ = some (b32 (P 14), τ) := ee 14 (by omega)
  have h26 : f_t_isHere 26 τ = some (b32 (P 15), τ) := ee 15 (by omega)
  have h27 : f_t_isHere 27 τ = some (b32 (P 16), τ) := ee 16 (by omega)
  have h28 : f_t_isHere 28 τ = some (b32 (P 17), τ) := ee 17 (by omega)
  have h29 : f_t_isHere 29 τ = some (b32 (P 18), τ) := ee 18 (by omega)
  have h30 : f_t_isHere 30 τ = some (b32 (P 19), τ) := ee 19 (by omega)
  have h31 : f_t_isHere 31 τ = some (b32 (P 20), τ) := ee 20 (by omega)
  have h32 : f_t_isHere 32 τ = some (b32 (P 21), τ) := ee 21 (by omega)
  have h33 : f_t_isHere 33 τ = some (b32 (P 22), τ) := ee 22 (by omega)
  have h34 : f_t_isHere 34 τ = some (b32 (P 23), τ) := ee 23 (by omega)
  have h35 : f_t_isHere 35 τ = some (b32 (P 24), τ) := ee 24 (by omega)
  have h36 : f_t_isHere 36 τ = some (b32 (P 25), τ) := ee 25 (by omega)
  have h37 : f_t_isHere 37 τ = some (b32 (P 26), τ) := ee 26 (by omega)
  have h38 : f_t_isHere 38 τ = some (b32 (P 27), τ) := ee 27 (by omega)
  have h39 : f_t_isHere 39 τ = some (b32 (P 28), τ) := ee 28 (by omega)
  have h40 : f_t_isHere 40 τ = some (b32 (P 29), τ) := ee 29 (by omega)
  have h41 : f_t_isHere 41 τ = some (b32 (P 30), τ) := ee 30 (by omega)
  have h42 : f_t_isHere 42 τ = some (b32 (P 31), τ) := ee 31 (by omega)
  have h43 : f_t_isHere 43 τ = some (b32 (P 32), τ) := ee 32 (by omega)
  have j413 : Jt_isOwnHere_413 τ = some (1, τ) := rfl
  have j370 : Jt_isOwnHere_370 τ = some (1, τ) := rfl
  have j294 : Jt_isOwnHere_294 τ = some (1, τ) := rfl
  have j218 : Jt_isOwnHere_218 τ = some (1, τ) := rfl
  have j142 : Jt_isOwnHere_142 τ = some (1, τ) := rfl
  have j66 : Jt_isOwnHere_66 τ = some (1, τ) := rfl
  have e375 : Jt_isOwnHere_375 0 τ = ownN P τ 3 30 := by
    unfold Jt_isOwnHere_375
    simp only [h41, h42, h43, xbd_some, if_b, j413, if_true]
    rfl
  have e299 : Jt_isOwnHere_299 0 τ = ownN P τ 9 24 := by
    unfold Jt_isOwnHere_299
    simp only [h35, h36, h37, h38, h39, h40, xbd_some, if_b, j370, e375, if_true]
    rfl
  have e223 : Jt_isOwnHere_223 0 τ = ownN P τ 15 18 := by
    unfold Jt_isOwnHere_223
    simp only [h29, h30, h31, h32, h33, h34, xbd_some, if_b, j294, e299, if_true]
    rfl
  have e147 : Jt_isOwnHere_147 0 τ = ownN P τ 21 12 := by
    unfold Jt_isOwnHere_147
    simp only [h23, h24, h25, h26, h27, h28, xbd_some, if_b, j218, e223, if_true]
    rfl
  have e71 : Jt_isOwnHere_71 0 τ = ownN P τ 27 6 := by
    unfold Jt_isOwnHere_71
    simp only [h17, h18, h19, h20, h21, h22, xbd_some, if_b, j142, e147, if_true]
    rfl
  unfold f_t_isOwnHere
  simp only [h11, h12, h13, h14, h15, h16, xbd_some, if_b, j66, e71]
  rfl
/-- only the place, what ended, the fault, the name's place have moved -/
def TU (τ τ' : TS) : Prop := (∀ k, k ≠ 2 → k ≠ 4 → k ≠ 5 → k ≠ 6 → k ≠ 44 → tI τ' k = tI τ k) ∧ (∀ k, tL τ' k = tL τ k) ∧ (∀ k i, tA τ' k i = tA τ k i) ∧ ∀ k i, tM τ' k i = tM τ k i
theorem TU.refl {τ : TS} : TU τ τ := ⟨fun _ _ _ _ _ _ => rfl, fun _ => rfl, fun _ _ => rfl, fun _ _ => rfl⟩
theorem TU.trans {τ τ' τ'' : TS} (h : TU τ τ') (h' : TU τ' τ'') : TU τ τ'' := ⟨fun k a b c d e => (h'.1 k a b c d e).trans (h.1 k a b c d e), fun k => (h'.2.1 k).trans (h.2.1 k), fun k i => (h'.2.2.1 k i).trans (h.2.2.1 k i), fun k i => (h'.2.2.2 k i).trans (h.2.2.2 k i)⟩
theorem TU.sI {τ τ' : TS} {k : Nat} {v : Int32} (h : TU τ τ') (hk : k = 2 ∨ k = 4 ∨ k = 5 ∨ k = 6 ∨ k = 44) : TU τ (sI τ' k v) := ⟨fun j a b c d e => by rw [tI_sI, if_neg (by omega)]; exact h.1 j a b c d e, h.2.1, h.2.2.1, h.2.2.2⟩
theorem TU.z {τ τ' : TS} (h : TU τ τ') : TZ τ τ' := ⟨fun k hk => h.1 k (fun e => by subst e; cases hk) (fun e => by subst e; cases hk) (fun e => by subst e; cases hk) (fun e => by subst e; cases hk) (fun e => by subst e; cases hk), h.2.1, fun k i _ => h.2.2.1 k i, fun k i _ => h.2.2.2 k i⟩
theorem TVh.u {τ τ' : TS} {cd : Nat} {v : VQ} (h : TVh τ cd v) (t : TU τ τ') : TVh τ' cd v := h.of (fun k hk => t.1 k (by omega) (by omega) (by omega) (by omega) (by omega)) (fun k i _ _ => t.2.2.1 k i) (fun i => t.2.2.2 48 i)
section ZZX1
variable {X n V a p : Nat} {B : Nat → Nat} {τ τ' : TS}
/-- a name at a place: a fault, or its end -/
def nmR (B : Nat → Nat) (n s : Nat) : (Nat × Nat) ⊕ Nat := if okW B n s = false ∨ (∃ i, i < 33 ∧ ownL.getD i [] = wd B n s) then .inl (1, s) else if 6 < we B n s - s then .inl (1, s + 6) else .inr (we B n s)
theorem T_own (h : TPs τ n B p) (hp : sk B n p = p) (hw : TW τ) (ho : okW B n p = true) : (∃ i, i < 33 ∧ ownL.getD i [] = wd B n p) ∧ f_t_isOwnHere τ = some (1, τ) ∨ (¬ ∃ i, i < 33 ∧ ownL.getD i [] = wd B n p) ∧ f_t_isOwnHere τ = some (0, τ) := by
  have e := T_ownE (P := fun i => hW B n p (ownL.getD i [])) (fun i hi => T_isHere' h hp (hw.1 i hi))
  by_cases hh : ∃ i, i < 33 ∧ ownL.getD i [] = wd B n p
  · refine Or.inl ⟨hh, ?_⟩
    obtain ⟨i, h1, h2⟩ := hh
    rw [e]
    exact ownN_t 33 0 ⟨i, by omega, by omega, by show hW B n p (ownL.getD i []) = true; rw [hW_t ho, h2]; simp⟩
  · refine Or.inr ⟨hh, ?_⟩
    rw [e]
    refine ownN_f 33 0 (fun j _ hj => ?_)
    show hW B n p (ownL.getD j []) = false
    exact hW_f (fun _ z => hh ⟨j, by omega, z.symm⟩)
theorem nI_64 {b : Nat} (h : b < 2147483648) : (nI b).toInt64 = lN b := by
  rw [← Int64.toInt_inj, Int32.toInt_toInt64, nI_toInt (by omega), lN_toInt (by omega)]
/-- letters make a number -/
theorem T_nameL {s : Nat} : ∀ d k τ', s + k + d = n → k ≤ 6 → s + k ≤ we B n s → RdT τ' n B (s + k) → tI τ' 5 = 0 → tI τ' 44 = nI s → ∀ f, d < f →
    ∃ τ2, (TU τ' τ2 ∧ tI τ2 44 = tI τ' 44) ∧ tI τ2 5 = 0 ∧ ((we B n s - s ≤ 6 ∧ RdT τ2 n B (we B n s) ∧ tI τ2 4 = nI (we B n s) ∧ itr (fun s_ : Int64 × TS => Bt_name_58 s_.1 s_.2) f (lN (valN (wd B n s) k), τ') = some (.inr (lN (valN (wd B n s) (we B n s - s)), τ2))) ∨ (6 < we B n s - s ∧ tI τ2 2 = nI (s + 6) ∧ itr (fun s_ : Int64 × TS => Bt_name_58 s_.1 s_.2) f (lN (valN (wd B n s) k), τ') = some (.inl τ2))) := by
  have stop : ∀ k τ', s + k = we B n s → k ≤ 6 → RdT τ' n B (s + k) → tI τ' 5 = 0 → (s + k = n ∨ ltB (B (s + k)) = false) → ∀ f, 0 < f → ∃ τ2, (TU τ' τ2 ∧ tI τ2 44 = tI τ' 44) ∧ tI τ2 5 = 0 ∧ ((we B n s - s ≤ 6 ∧ RdT τ2 n B (we B n s) ∧ tI τ2 4 = nI (we B n s) ∧ itr (fun s_ : Int64 × TS => Bt_name_58 s_.1 s_.2) f (lN (valN (wd B n s) k), τ') = some (.inr (lN (valN (wd B n s) (we B n s - s)), τ2))) ∨ (6 < we B n s - s ∧ tI τ2 2 = nI (s + 6) ∧ itr (fun s_ : Int64 × TS => Bt_name_58 s_.1 s_.2) f (lN (valN (wd B n s) k), τ') = some (.inl τ2))) := by
    intro k τ' hk hk6 hr h5 hend f hf
    have hn := hr.2.1
    obtain ⟨f', rfl⟩ : ∃ f', f = f' + 1 := ⟨f - 1, by omega⟩
    have hb : Bt_name_58 (lN (valN (wd B n s) k)) τ' = Jt_name_145 (lN (valN (wd B n s) k)) τ' := by
      unfold Bt_name_58
      rw [hr.2.2.1, hr.2.2.2.1]
      by_cases e : s + k = n
      · rw [if_pos (by rw [nI_leI (by omega) (by omega)]; omega)]
      · have hlt : s + k < n := by have := hr.2.2.2.2; omega
        have hbb := hr.1 (s + k) (by omega)
        have ech : nI (B (s + k)) = chI (B (s + k)) := by unfold chI; rw [if_neg (by omega)]
        rw [if_neg (by rw [nI_leI (by omega) (by omega)]; omega), if_pos (xin_nI (show s + k < 1600 by omega) (by omega)), nI_clamp (show s + k < 2 ^ 31 by omega), hbb.1, ech, T_isLetter (by omega), xbd_some, hend.resolve_left e, if_pos (show b32 false = 0 by decide)]
    refine ⟨sI τ' 4 (tI τ' 2), ⟨TU.refl.sI (by omega), by rw [tI_sI, if_neg (by omega)]⟩, by rw [tI_sI, if_neg (by omega)]; exact h5, Or.inl ⟨by omega, ?_, ?_, ?_⟩⟩
    · rw [← hk]
      exact ⟨hr.1, hr.2.1, by rw [tI_sI, if_neg (by omega)]; exact hr.2.2.1, by rw [tI_sI, if_neg (by omega)]; exact hr.2.2.2.1, hr.2.2.2.2⟩
    · rw [tI_sI, if_pos rfl, hr.2.2.2.1, hk]
    · rw [show we B n s - s = k by omega]
      refine itr_inr ?_
      show Bt_name_58 (lN (valN (wd B n s) k)) τ' = _
      rw [hb]
      rfl
  intro d
  induction d with
  | zero =>
    intro k τ' hd hk hle hr h5 h44 f hf
    have g := we_g (B := B) (n := n) (a := s) (by omega)
    exact stop k τ' (by omega) hk hr h5 (Or.inl (by omega)) f (by omega)
  | succ d ih =>
    intro k τ' hd hk hle hr h5 h44 f hf
    have hn := hr.2.1
    have g := we_g (B := B) (n := n) (a := s) (by omega)
    by_cases e : s + k = we B n s
    · exact stop k τ' e hk hr h5 (by rw [e]; exact g.2.2.1) f (by omega)
    · obtain ⟨f', rfl⟩ : ∃ f', f = f' + 1 := ⟨f - 1, by omega⟩
      have hlt : ltB (B (s + k)) = true := g.2.2.2 (s + k) (by omega) (by omega)
      have hbb := hr.1 (s + k) (by omega)
      have hx := ltB_b hlt
      have ech : nI (B (s + k)) = chI (B (s + k)) := by unfold chI; rw [if_neg (by omega)]
      have hgd : (wd B n s).getD k 0 = B (s + k) := wd_get (by omega)
      have hv : ((27 : Int64) * lN (valN (wd B n s) k) + lN (B (s + k)) - 97) + 1 = lN (valN (wd B n s) (k + 1)) := by
        show lN 27 * lN (valN (wd B n s) k) + lN (B (s + k)) - lN 97 + lN 1 = lN (27 * valN (wd B n s) k + ((wd B n s).getD k 0 - 96))
        rw [lN_mul, lN_add, lN_sub (by omega), lN_add, hgd]
        congr 1
        omega
      have hb : Bt_name_58 (lN (valN (wd B n s) k)) τ' = if k = 6 then some (.inr (.inl τ')) else some (.inl (lN (valN (wd B n s) (k + 1)), sI τ' 2 (nI (s + (k + 1))))) := by
        unfold Bt_name_58
        rw [hr.2.2.1, hr.2.2.2.1, if_neg (by rw [nI_leI (by omega) (by omega)]; omega), if_pos (xin_nI (show s + k < 1600 by omega) (by omega)), nI_clamp (show s + k < 2 ^ 31 by omega), hbb.1, ech, T_isLetter (by omega), xbd_some, hlt, if_neg (show ¬ b32 true = 0 by decide), hr.2.2.2.1, h44, pk_sub (by omega), show s + k - s = k by omega, nI_clamp (show s + k < 2 ^ 31 by omega), hbb.1, nI_64 (by omega), hv, nl_1, nI_add, nl_6]
        by_cases e6 : k = 6
        · rw [if_pos (by rw [e6]), if_pos e6]
        · rw [if_neg (by rw [nI_eq (by omega) (by omega)]; exact e6), if_neg e6, if_pos (xin_nI (show s + k < 1600 by omega) (by omega)), Nat.add_assoc]
      by_cases e6 : k = 6
      · rw [if_pos e6] at hb
        subst e6
        exact ⟨τ', ⟨TU.refl, rfl⟩, h5, Or.inr ⟨by omega, hr.2.2.2.1, itr_inr hb⟩⟩
      · rw [if_neg e6] at hb
        obtain ⟨τ2, r1, r2, r3⟩ := ih (k + 1) (sI τ' 2 (nI (s + (k + 1)))) (by omega) (by omega) (by omega) (hr.to (by omega)) (by rw [tI_sI, if_neg (by omega)]; exact h5) (by rw [tI_sI, if_neg (by omega)]; exact h44) f' (by omega)
        refine ⟨τ2, ⟨(TU.refl.sI (by omega)).trans r1.1, by rw [r1.2, tI_sI, if_neg (by omega)]⟩, r2, ?_⟩
        rw [itr_inl (a' := (_, _)) hb]
        exact r3
/-- a name, the twin's -/
theorem T_name (h : TRd τ n B a) : OK (f_t_name τ) (fun o => TU τ o.2 ∧ (∀ k p, nmR B n (sk B n a) = .inl (k, p) → TFw o.2 k p ∧ k = 1) ∧ (∀ e, nmR B n (sk B n a) = .inr e → o.1 = lN (valN (wd B n (sk B n a)) (e - sk B n a)) ∧ TRd o.2 n B e ∧ tI o.2 44 = nI (sk B n a))) := by
  obtain ⟨e1, h'⟩ := h.1.look
  have ha := h.1.1.2.2.2.2
  have hn := h.1.1.2.1
  have hp : sk B n (sk B n a) = sk B n a := sk_i ha
  have hw' : TW (sI τ 2 (nI (sk B n a))) := h.2.of (fun x _ i => rfl)
  have hc := h'.cur_le (p := sk B n a)
  have j37 : Jt_name_37 (sI τ 2 (nI (sk B n a))) = some (0, sI (sI (sI τ 2 (nI (sk B n a))) 5 1) 6 (nI (sk B n a))) := by
    unfold Jt_name_37
    rw [T_fail h'.2.1, h'.1.2.2.2.1, Option.bind_some]
  have tz1 : TU τ (sI (sI (sI τ 2 (nI (sk B n a))) 5 1) 6 (nI (sk B n a))) := ((TU.refl.sI (by omega)).sI (by omega)).sI (by omega)
  have bad : ∀ o, o = some ((0 : Int64), sI (sI (sI τ 2 (nI (sk B n a))) 5 1) 6 (nI (sk B n a))) → nmR B n (sk B n a) = .inl (1, sk B n a) → OK o (fun o => TU τ o.2 ∧ (∀ k p, nmR B n (sk B n a) = .inl (k, p) → TFw o.2 k p ∧ k = 1) ∧ (∀ e, nmR B n (sk B n a) = .inr e → o.1 = lN (valN (wd B n (sk B n a)) (e - sk B n a)) ∧ TRd o.2 n B e ∧ tI o.2 44 = nI (sk B n a))) := fun o e hr => by
    rw [e]
    refine OK_some ⟨tz1, fun k p hk => ?_, fun e he => by rw [hr] at he; cases he⟩
    rw [hr] at hk
    have hk : (1, sk B n a) = (k, p) := by injection hk
    cases hk
    exact ⟨⟨by rw [tI_sI, if_neg (by omega), tI_sI, if_pos rfl]; rfl, by rw [tI_sI, if_pos rfl]⟩, rfl⟩
  unfold f_t_name
  rw [if_pos h.1.2.1, e1, xbd_some, T_isLetter hc, xbd_some]
  cases hlt : ltB (cur B n (sk B n a)) with
  | false =>
    rw [if_pos (show b32 false = 0 by decide), j37]
    refine bad _ rfl ?_
    unfold nmR
    rw [if_pos (Or.inl (by unfold okW; rw [hlt]; rfl))]
  | true =>
    rw [if_neg (show ¬ b32 true = 0 by decide)]
    have e4 : (tI (sI τ 2 (nI (sk B n a))) 2 = tI (sI τ 2 (nI (sk B n a))) 4) ↔ alB B (sk B n a) = true := by
      rw [h'.1.2.2.2.1, ← h'.2.2.2, i32_eq, nI_toInt (by have := h'.1.2.2.2.2; omega)]
      exact ⟨fun z => z.symm, fun z => z.symm⟩
    by_cases hal : alB B (sk B n a) = true
    · rw [if_pos (e4.mpr hal), j37]
      refine bad _ rfl ?_
      unfold nmR
      rw [if_pos (Or.inl (by unfold okW; rw [hal]; simp))]
    · have hok : okW B n (sk B n a) = true := by unfold okW; rw [hlt, show alB B (sk B n a) = false by simpa using hal]; rfl
      rw [if_neg (fun z => hal (e4.mp z))]
      obtain ⟨w1, w2, -⟩ := okW_gt hok
      rcases T_own h' hp hw' hok with ⟨hin, e5⟩ | ⟨hin, e5⟩
      · rw [e5, xbd_some, if_neg (by decide), j37]
        refine bad _ rfl ?_
        unfold nmR
        rw [if_pos (Or.inr hin)]
      · rw [e5, xbd_some, if_pos rfl, h'.1.2.2.2.1]
        have hr0 : RdT (sI (sI τ 2 (nI (sk B n a))) 44 (nI (sk B n a))) n B (sk B n a + 0) := ⟨h'.1.1, hn, by rw [tI_sI, if_neg (by omega)]; exact h'.1.2.2.1, by rw [tI_sI, if_neg (by omega)]; exact h'.1.2.2.2.1, h'.1.2.2.2.2⟩
        obtain ⟨τ2, r1, r2, r3⟩ := T_nameL (n - sk B n a) 0 _ (by omega) (by omega) (by omega) hr0 (by rw [tI_sI, if_neg (by omega)]; exact h'.2.1) (by rw [tI_sI, if_pos rfl]) 4096 (by omega)
        have z0 : TU τ (sI (sI τ 2 (nI (sk B n a))) 44 (nI (sk B n a))) := (TU.refl.sI (by omega)).sI (by omega)
        have hnm : nmR B n (sk B n a) = if 6 < we B n (sk B n a) - sk B n a then .inl (1, sk B n a + 6) else .inr (we B n (sk B n a)) := by
          unfold nmR
          rw [if_neg (by rintro (z | z); · rw [hok] at z; cases z
                         · exact hin z)]
        rcases r3 with ⟨s1, s2, s3, s4⟩ | ⟨s1, s2, s4⟩
        · have s4' : itr (fun s_ : Int64 × TS => Bt_name_58 s_.1 s_.2) 4096 (0, sI (sI τ 2 (nI (sk B n a))) 44 (nI (sk B n a))) = _ := s4
          rw [s4', Option.bind_some, Sum.elim_inr]
          rw [if_neg (by omega)] at hnm
          have z44 : tI τ2 44 = nI (sk B n a) := by rw [r1.2, tI_sI, if_pos rfl]
          refine OK_some ⟨z0.trans r1.1, (fun k p hk => by rw [hnm] at hk; cases hk), fun e he => ?_⟩
          rw [hnm] at he
          have he : we B n (sk B n a) = e := by injection he
          subst he
          refine ⟨rfl, ⟨⟨s2, r2, ?_⟩, h.2.z (z0.trans r1.1).z⟩, z44⟩
          unfold EN
          rw [s3, nI_toInt (by omega)]
          refine ⟨Int.le_refl _, fun _ => ?_, fun _ => rfl⟩
          have g4 := (we_g (B := B) (n := n) (a := sk B n a) (by omega)).2.2.2
          unfold alB
          rw [decide_eq_true (show 0 < we B n (sk B n a) by omega), g4 (we B n (sk B n a) - 1) (by omega) (by omega)]; rfl
        · have s4' : itr (fun s_ : Int64 × TS => Bt_name_58 s_.1 s_.2) 4096 (0, sI (sI τ 2 (nI (sk B n a))) 44 (nI (sk B n a))) = _ := s4
          rw [s4', Option.bind_some, Sum.elim_inl, T_fail r2, s2, Option.bind_some]
          rw [if_pos s1] at hnm
          refine OK_some ⟨((z0.trans r1.1).sI (by omega)).sI (by omega), fun k p hk => ?_, fun e he => by rw [hnm] at he; cases he⟩
          rw [hnm] at hk
          have hk : (1, sk B n a + 6) = (k, p) := by injection hk
          cases hk
          exact ⟨⟨by rw [tI_sI, if_neg (by omega), tI_sI, if_pos rfl]; rfl, by rw [tI_sI, if_pos rfl]⟩, rfl⟩
end ZZX1
