/-! PLAIN LAW: on: the twin's side -/
set_option maxRecDepth 100000
def TB8 (τ : TS) (B : Nat → Nat) : Prop := ∀ i, i < 1600 → tA τ 0 i = nI (B i) ∧ B i < 256
section ZUs
variable {g : CG} {c c' c'' : CC} {τ τ' τ'' q : TS} {X V s lo hi n m : Nat} {v : VD} {w : Nat → Int32} {B : Nat → Nat}
theorem TB8.two {k : Nat} (h : TB8 τ B) (hk : k + 1 < 1600) : f_t_twoAt (nI k) τ = some (nI (256 * B k + B (k + 1)), τ) := by
  unfold f_t_twoAt
  rw [if_pos (xin_nI (show k < 1600 by omega) (by omega)), nl_1, nI_add, if_pos (xin_nI (show k + 1 < 1600 by omega) (by omega)), nI_clamp (show k < 2 ^ 31 by omega), nI_clamp (show k + 1 < 2 ^ 31 by omega), (h k (by omega)).1, (h (k + 1) hk).1, nl_256, pk_mul, nI_add]
theorem TB8.two2 {k j : Nat} (h : TB8 τ B) (hj : k + 1 = j) (hk : j < 1600) : f_t_twoAt (nI k) τ = some (nI (256 * B k + B j), τ) := by
  subst hj; exact h.two hk
theorem T_cellsFrom (hT : TV0 τ v) : f_t_cellsFrom τ = some (nI (5 + vC v), τ) := by
  unfold f_t_cellsFrom
  rw [T_columnMany, xbd_some, hT.2.1, nl_5, nI_add]
theorem T_lordsFrom (hT : TV0 τ v) : f_t_lordsFrom τ = some (nI (lordAt v 0), τ) := by
  unfold f_t_lordsFrom
  rw [T_cellsFrom hT, xbd_some, T_columnMany, xbd_some, T_rowsMany, xbd_some, hT.2.1, hT.2.2.1, nl_2, pk_mul, pk_mul, nI_add]
  unfold lordAt
  rw [Nat.mul_assoc, Nat.mul_zero, Nat.add_zero]
theorem T_imgRows {x1 : Int32} (hT : TV0 τ v) (hb : VB v) (hB : TB8 τ B) : OK (itr (fun s_ : Int32 × TS => Bt_isImage_82 x1 s_.1 s_.2) 4096 (5, τ)) (fun o => (o = .inl τ ∧ allN (rokS v B) (vC v) = true) ∨ (o = .inr (0, τ) ∧ allN (rokS v B) (vC v) = false)) := by
  have hb1 := hb.1
  have hb2 := hb.2.1
  refine itr_for (fun i s => s = (nI (5 + i), τ) ∧ allN (rokS v B) i = true) _ 0 (vC v) ?_ ?_ (by omega) (by omega) ⟨rfl, rfl⟩
  · rintro i s - hi ⟨rfl, ha⟩
    have h9 : ¬ nI (5 + vC v) ≤ nI (5 + i) := by rw [nI_leI (by omega) (by omega)]; omega
    have hs := (hB (5 + i) (by omega)).2
    show OK (Bt_isImage_82 x1 (nI (5 + i)) τ) _
    unfold Bt_isImage_82
    rw [T_cellsFrom hT, xbd_some, if_neg h9, if_pos (xin_nI (show 5 + i < 1600 by omega) (by omega)), nI_clamp (show 5 + i < 2 ^ 31 by omega), (hB (5 + i) (by omega)).1, T_rowsMany, xbd_some, hT.2.2.1, nl_1, nI_add]
    by_cases e : B (5 + i) < vW v
    · rw [if_pos (by rw [nI_ltI (by omega) (by omega)]; exact e)]
      refine OK_some (Or.inl ⟨_, rfl, rfl, ?_⟩)
      show (allN (rokS v B) i && rokS v B i) = true
      rw [ha]; unfold rokS; rw [decide_eq_true e]; rfl
    · rw [if_neg (by rw [nI_ltI (by omega) (by omega)]; exact e)]
      exact OK_some (Or.inr ⟨_, rfl, Or.inr ⟨rfl, allN_no hi (by unfold rokS; exact decide_eq_false e)⟩⟩)
  · rintro s ⟨rfl, ha⟩
    have h9 : nI (5 + vC v) ≤ nI (5 + vC v) := by rw [nI_leI (by omega) (by omega)]; omega
    show OK (Bt_isImage_82 x1 (nI (5 + vC v)) τ) _
    unfold Bt_isImage_82
    rw [T_cellsFrom hT, xbd_some, if_pos h9]
    exact OK_some ⟨_, rfl, Or.inl ⟨rfl, ha⟩⟩
theorem T_imgCells {x1 : Int32} (hT : TV0 τ v) (hb : VB v) (hB : TB8 τ B) : OK (itr (fun s_ : Int32 × TS => Bt_isImage_116 x1 s_.1 s_.2) 4096 (nI (5 + vC v), τ)) (fun o => (o = .inl τ ∧ allN (cokS v B) (vC v * vW v) = true) ∨ (o = .inr (0, τ) ∧ allN (cokS v B) (vC v * vW v) = false)) := by
  have hb1 := hb.1
  have hb2 := hb.2.1
  have mono : vC v * vW v ≤ 10 * 8 := Nat.mul_le_mul hb1 hb2
  refine itr_for (fun i s => s = (nI (5 + vC v + 2 * i), τ) ∧ allN (cokS v B) i = true) _ 0 (vC v * vW v) ?_ ?_ (by omega) (by omega) ⟨rfl, rfl⟩
  · rintro i s - hi ⟨rfl, ha⟩
    have h9 : ¬ nI (lordAt v 0) ≤ nI (5 + vC v + 2 * i) := by unfold lordAt; rw [nI_leI (by omega) (by omega)]; omega
    have hs := (hB (5 + vC v + 2 * i) (by omega)).2
    have hs2 := (hB (5 + vC v + 2 * i + 1) (by omega)).2
    show OK (Bt_isImage_116 x1 (nI (5 + vC v + 2 * i)) τ) _
    unfold Bt_isImage_116
    rw [T_lordsFrom hT, xbd_some, if_neg h9, if_pos (xin_nI (show 5 + vC v + 2 * i < 1600 by omega) (by omega)), nI_clamp (show 5 + vC v + 2 * i < 2 ^ 31 by omega), (hB (5 + vC v + 2 * i) (by omega)).1, nl_1, nl_2, nI_add, nI_add, if_pos (xin_nI (show 5 + vC v + 2 * i + 1 < 1600 by omega) (by omega)), nI_clamp (show 5 + vC v + 2 * i + 1 < 2 ^ 31 by omega), (hB (5 + vC v + 2 * i + 1) (by omega)).1, nl_9, nl_99]
    by_cases e : B (5 + vC v + 2 * i) ≤ 9
    · rw [if_neg (by rw [nI_ltI (by omega) (by omega)]; omega)]
      by_cases e2 : B (5 + vC v + 2 * i + 1) ≤ 99
      · rw [if_pos (by rw [nI_leI (by omega) (by omega)]; exact e2)]
        refine OK_some (Or.inl ⟨_, rfl, rfl, ?_⟩)
        show (allN (cokS v B) i && cokS v B i) = true
        rw [ha]; unfold cokS; rw [decide_eq_true e, decide_eq_true e2]; rfl
      · rw [if_neg (by rw [nI_leI (by omega) (by omega)]; exact e2)]
        exact OK_some (Or.inr ⟨_, rfl, Or.inr ⟨rfl, allN_no hi (by unfold cokS; rw [decide_eq_false e2, Bool.and_false])⟩⟩)
    · rw [if_pos (by rw [nI_ltI (by omega) (by omega)]; omega)]
      exact OK_some (Or.inr ⟨_, rfl, Or.inr ⟨rfl, allN_no hi (by unfold cokS; rw [decide_eq_false e, Bool.false_and])⟩⟩)
  · rintro s ⟨rfl, ha⟩
    have h9 : nI (lordAt v 0) ≤ nI (5 + vC v + 2 * (vC v * vW v)) := by unfold lordAt; rw [nI_leI (by omega) (by omega)]; omega
    show OK (Bt_isImage_116 x1 (nI (5 + vC v + 2 * (vC v * vW v))) τ) _
    unfold Bt_isImage_116
    rw [T_lordsFrom hT, xbd_some, if_pos h9]
    exact OK_some ⟨_, rfl, Or.inl ⟨rfl, ha⟩⟩
theorem T_imgLords (hT : TV0 τ v) (hb : VB v) (hB : TB8 τ B) : OK (itr (fun s_ : Int32 × TS => Bt_isImage_161 (nI (lordAt v (vN v) + 1)) s_.1 s_.2) 4096 (nI (lordAt v 0), τ)) (fun o => (o = .inl τ ∧ allN (lokS v B) (vN v) = true) ∨ (o = .inr (0, τ) ∧ allN (lokS v B) (vN v) = false)) := by
  have hb1 := hb.1
  have hb2 := hb.2.1
  have hb3 := hb.2.2.2.1
  have mono : vC v * vW v ≤ 10 * 8 := Nat.mul_le_mul hb1 hb2
  have hl : ∀ k, k ≤ 5 → lordAt v k ≤ 190 := fun k hk => by unfold lordAt; omega
  have e1 : nI (lordAt v (vN v) + 1) - nI 1 = nI (lordAt v (vN v)) := by rw [nI_m1 (by omega)]; rfl
  refine itr_for (fun i s => s = (nI (lordAt v i), τ) ∧ allN (lokS v B) i = true) _ 0 (vN v) ?_ ?_ (by omega) (by omega) ⟨rfl, rfl⟩
  · rintro i s - hi ⟨rfl, ha⟩
    have h9 : ¬ nI (lordAt v (vN v)) ≤ nI (lordAt v i) := by rw [nI_leI (by have := hl (vN v) hb3; omega) (by have := hl i (by omega); omega)]; unfold lordAt; omega
    have eA : lordAt v (i + 1) = lordAt v i + 3 := by unfold lordAt; omega
    have lA := hl i (by omega)
    have c1 : allN (lokS v B) (i + 1) = (allN (lokS v B) i && lokS v B i) := rfl
    have hlo : lokS v B i = (decide (B (lordAt v i) ≤ 1) && decide (256 * B (lordAt v i + 1) + B (lordAt v i + 2) ≤ 999)) := rfl
    show OK (Bt_isImage_161 (nI (lordAt v (vN v) + 1)) (nI (lordAt v i)) τ) _
    unfold Bt_isImage_161
    generalize lordAt v i = A at *
    have hs := (hB A (by omega)).2
    have hs1 := (hB (A + 1) (by omega)).2
    have hs2 := (hB (A + 2) (by omega)).2
    rw [nl_1, e1, if_neg h9, if_pos (xin_nI (show A < 1600 by omega) (by omega)), nI_clamp (show A < 2 ^ 31 by omega), (hB A (by omega)).1, nI_add, hB.two2 (j := A + 2) rfl (by omega), xbd_some, nl_999, nl_3, nI_add]
    by_cases e : B A ≤ 1
    · rw [if_neg (by rw [nI_ltI (by omega) (by omega)]; omega)]
      by_cases e2 : 256 * B (A + 1) + B (A + 2) ≤ 999
      · rw [if_pos (by rw [nI_leI (by omega) (by omega)]; exact e2)]
        exact OK_some (Or.inl ⟨_, rfl, by rw [eA], by rw [c1, ha, hlo, decide_eq_true e, decide_eq_true e2]; rfl⟩)
      · rw [if_neg (by rw [nI_leI (by omega) (by omega)]; exact e2)]
        exact OK_some (Or.inr ⟨_, rfl, Or.inr ⟨rfl, allN_no hi (by rw [hlo, decide_eq_false e2, Bool.and_false])⟩⟩)
    · rw [if_pos (by rw [nI_ltI (by omega) (by omega)]; omega)]
      exact OK_some (Or.inr ⟨_, rfl, Or.inr ⟨rfl, allN_no hi (by rw [hlo, decide_eq_false e, Bool.false_and])⟩⟩)
  · rintro s ⟨rfl, ha⟩
    have h9 : nI (lordAt v (vN v)) ≤ nI (lordAt v (vN v)) := by have := hl (vN v) hb3; rw [nI_leI (by omega) (by omega)]; omega
    show OK (Bt_isImage_161 (nI (lordAt v (vN v) + 1)) (nI (lordAt v (vN v))) τ) _
    unfold Bt_isImage_161
    rw [nl_1, e1, if_pos h9]
    exact OK_some ⟨_, rfl, Or.inl ⟨rfl, ha⟩⟩
/-- whether it is an image -/
def imgOK (v : VD) (B : Nat → Nat) (n k : Nat) : Bool := decide (n = lordAt v (vN v) + 1) && decide (B (n - 1) = k) && decide (256 * B 0 + B 1 ≤ 999) && decide (65536 * B 2 + (256 * B 3 + B 4) ≤ 999999) && (allN (rokS v B) (vC v) && allN (cokS v B) (vC v * vW v)) && allN (lokS v B) (vN v)
theorem T_isImage {k : Nat} (hT : TV0 τ v) (hb : VB v) (hB : TB8 τ B) (hv : 0 < vC v) (hn : n ≤ 1600) (hk : k < 256) (hc : n = lordAt v (vN v) + 1 → f_t_checked 0 (nI (n - 1)) τ = some (nI k, τ)) : f_t_isImage (nI n) τ = some (b32 (imgOK v B n k), τ) := by
  have hb1 := hb.1
  have hb2 := hb.2.1
  have hb3 := hb.2.2.2.1
  have mono : vC v * vW v ≤ 10 * 8 := Nat.mul_le_mul hb1 hb2
  have hl : lordAt v (vN v) ≤ 190 := by unfold lordAt; omega
  have b0 := (hB 0 (by omega)).2
  have b1 := (hB 1 (by omega)).2
  have b2 := (hB 2 (by omega)).2
  have b3 := (hB 3 (by omega)).2
  have b4 := (hB 4 (by omega)).2
  have eL : (nI (lordAt v 0) + (nI 3 * nI (vN v))) + nI 1 = nI (lordAt v (vN v) + 1) := by rw [pk_mul, nI_add, nI_add]; unfold lordAt; rfl
  have hT' : f_t_lordMany τ = some (nI (vN v), τ) := by unfold f_t_lordMany; rw [hT.2.2.2.2.1]
  unfold f_t_isImage
  rw [hT.1, decide_eq_true hv, if_neg (show ¬ b32 true = 0 by decide), T_lordsFrom hT, xbd_some, hT', xbd_some, nl_3, nl_1, eL]
  by_cases e1 : n = lordAt v (vN v) + 1
  · have hc := hc e1
    have nb := (hB (n - 1) (by omega)).2
    rw [if_pos (by rw [e1]), nI_m1 (by omega), if_pos (xin_nI (show n - 1 < 1600 by omega) (by omega)), hc, xbd_some, nI_clamp (show n - 1 < 2 ^ 31 by omega), (hB (n - 1) (by omega)).1]
    by_cases e2 : B (n - 1) = k
    · rw [if_pos (by rw [e2]), nl_0, hB.two2 (j := 1) rfl (by omega), xbd_some, nl_999]
      by_cases e3 : 256 * B 0 + B 1 ≤ 999
      · rw [if_neg (by rw [nI_ltI (by omega) (by omega)]; omega), if_pos (show xin 2 1600 = true by decide), show ((2 : Int32).toNatClampNeg) = 2 by decide, hB.two2 (j := 4) rfl (by omega), xbd_some, (hB 2 (by omega)).1, nl_65536, pk_mul, nI_add, nl_999999]
        by_cases e4 : 65536 * B 2 + (256 * B 3 + B 4) ≤ 999999
        · rw [if_pos (by rw [nI_leI (by omega) (by omega)]; exact e4)]
          have base : ∀ x y z : Bool, imgOK v B n k = (x && y && z) → x = allN (rokS v B) (vC v) → True := fun _ _ _ _ _ => trivial
          have ei : imgOK v B n k = ((allN (rokS v B) (vC v) && allN (cokS v B) (vC v * vW v)) && allN (lokS v B) (vN v)) := by
            unfold imgOK
            rw [decide_eq_true e1, decide_eq_true e2, decide_eq_true e3, decide_eq_true e4]; rfl
          rw [ei]
          obtain ⟨o1, d1, h1⟩ := T_imgRows (x1 := nI n) hT hb hB
          rw [d1, Option.bind_some]
          rcases h1 with ⟨rfl, h1⟩ | ⟨rfl, h1⟩
          · rw [Sum.elim_inl]
            obtain ⟨o2, d2, h2⟩ := T_imgCells (x1 := nI n) hT hb hB
            rw [T_cellsFrom hT, xbd_some, d2, Option.bind_some]
            rcases h2 with ⟨rfl, h2⟩ | ⟨rfl, h2⟩
            · rw [Sum.elim_inl]
              obtain ⟨o3, d3, h3⟩ := T_imgLords hT hb hB
              rw [T_lordsFrom hT, xbd_some, e1, d3, Option.bind_some]
              rcases h3 with ⟨rfl, h3⟩ | ⟨rfl, h3⟩
              · rw [h1, h2, h3]; rfl
              · rw [h3, Bool.and_false]; rfl
            · rw [h2, Bool.and_false, Bool.false_and]; rfl
          · rw [h1, Bool.false_and, Bool.false_and]; rfl
        · rw [if_neg (by rw [nI_leI (by omega) (by omega)]; exact e4)]
          unfold imgOK; rw [decide_eq_false e4, Bool.and_false, Bool.false_and, Bool.false_and]; rfl
      · rw [if_pos (by rw [nI_ltI (by omega) (by omega)]; omega)]
        unfold imgOK; rw [decide_eq_false e3, Bool.and_false, Bool.false_and, Bool.false_and, Bool.false_and]; rfl
    · rw [if_neg (by rw [nI_eq (by omega) (by omega)]; exact e2)]
      unfold imgOK; rw [decide_eq_false e2, Bool.and_false, Bool.false_and, Bool.false_and, Bool.false_and, Bool.false_and]; rfl
  · rw [if_neg (by rw [nI_eq (by omega) (by omega)]; exact e1)]
    unfold imgOK; rw [decide_eq_false e1, Bool.false_and, Bool.false_and, Bool.false_and, Bool.false_and, Bool.false_and]; rfl
/-- the twin's rows, cells, lords are laid -/
theorem TB8.of (h : TB8 τ B) (e : ∀ i, tA τ' 0 i = tA τ 0 i) : TB8 τ' B := fun i hi => by rw [e]; exact h i hi
theorem T_onRows (hT : TV τ v) (hb : VB v) (hB : TB8 τ B) (hw : tA τ 62 = w) : OK (itr (fun s_ : Int32 × TS => Bt_on_65 s_.1 s_.2) 4096 (0, τ)) (fun q => tA q 62 = rowW B w (vC v) ∧ TX no in62 τ q) := by
  have hb1 := hb.1
  refine itr_for (fun i s => ∃ q, s = (nI i, q) ∧ tA q 62 = rowW B w i ∧ TX no in62 τ q) _ 0 (vC v) ?_ ?_ (by omega) (by omega) ⟨τ, rfl, hw, TX.refl _ _ τ⟩
  · rintro i s - hi ⟨q, rfl, p1, p2⟩
    have hT' : TV q v := hT.tx p2 ⟨rfl, rfl⟩ ⟨rfl, rfl, rfl, rfl, rfl, rfl⟩
    have hB' : TB8 q B := hB.of (fun i => p2.2.2.1 0 i rfl)
    have h9 : ¬ nI (vC v) ≤ nI i := by rw [nI_leI (by omega) (by omega)]; omega
    show OK (Bt_on_65 (nI i) q) _
    unfold Bt_on_65
    rw [T_columnMany, xbd_some, hT'.1.2.1, if_neg h9, nl_5, nl_2, nl_1, nI_add, nI_add, nI_add, if_pos (xin_nI (show 5 + i < 1600 by omega) (by omega)), if_pos (xin_nI (show 2 + i < 303 by omega) (by omega)), nI_clamp (show 5 + i < 2 ^ 31 by omega), nI_clamp (show 2 + i < 2 ^ 31 by omega), (hB' (5 + i) (by omega)).1]
    exact OK_some (Or.inl ⟨_, rfl, _, rfl, by rw [tA_upd, p1]; rfl, p2.sA rfl⟩)
  · rintro s ⟨q, rfl, p1, p2⟩
    have hT' : TV q v := hT.tx p2 ⟨rfl, rfl⟩ ⟨rfl, rfl, rfl, rfl, rfl, rfl⟩
    have h9 : nI (vC v) ≤ nI (vC v) := by rw [nI_leI (by omega) (by omega)]; omega
    show OK (Bt_on_65 (nI (vC v)) q) _
    unfold Bt_on_65
    rw [T_columnMany, xbd_some, hT'.1.2.1, if_pos h9]
    exact OK_some ⟨_, rfl, p1, p2⟩
theorem cel_ix {i r : Nat} (hr : r < vW v) : cel v (r + i * vW v) = 8 * i + r := by
  unfold cel
  rw [(ix_div hr).1, (ix_div hr).2]
theorem T_onCol {i : Nat} (hT : TV τ v) (hb : VB v) (hB : TB8 τ B) (hi : i < vC v) (hw : tA τ 62 = cellW v B w (i * vW v)) : OK (itr (fun s_ : Int32 × Int32 × TS => Bt_on_113 (nI i) s_.1 s_.2.1 s_.2.2) 4096 (nI (5 + vC v + 2 * (i * vW v)), 0, τ)) (fun o => o.1 = nI (5 + vC v + 2 * ((i + 1) * vW v)) ∧ tA o.2 62 = cellW v B w ((i + 1) * vW v) ∧ TX no in62 τ o.2) := by
  have hb1 := hb.1
  have hb2 := hb.2.1
  have mono : vC v * vW v ≤ 10 * 8 := Nat.mul_le_mul hb1 hb2
  have hmul : i * vW v + vW v ≤ vC v * vW v := by
    have := Nat.mul_le_mul_right (vW v) (show i + 1 ≤ vC v by omega)
    rw [Nat.succ_mul] at this; exact this
  have es : (i + 1) * vW v = vW v + i * vW v := by rw [Nat.succ_mul]; omega
  rw [es]
  refine itr_for (fun r s => ∃ q, s = (nI (5 + vC v + 2 * (r + i * vW v)), nI r, q) ∧ tA q 62 = cellW v B w (r + i * vW v) ∧ TX no in62 τ q) _ 0 (vW v) ?_ ?_ (by omega) (by omega) ⟨τ, by rw [Nat.zero_add]; rfl, by rw [Nat.zero_add]; exact hw, TX.refl _ _ τ⟩
  · rintro r s - hr ⟨q, rfl, p1, p2⟩
    have hT' : TV q v := hT.tx p2 ⟨rfl, rfl⟩ ⟨rfl, rfl, rfl, rfl, rfl, rfl⟩
    have hB' : TB8 q B := hB.of (fun i => p2.2.2.1 0 i rfl)
    have h9 : ¬ nI (vW v) ≤ nI r := by rw [nI_leI (by omega) (by omega)]; omega
    have ec := cel_ix (v := v) (i := i) hr
    have e1 : r + 1 + i * vW v = r + i * vW v + 1 := by omega
    show OK (Bt_on_113 (nI i) (nI (5 + vC v + 2 * (r + i * vW v))) (nI r) q) _
    unfold Bt_on_113
    generalize r + i * vW v = K at *
    rw [T_rowsMany, xbd_some, hT'.1.2.2.1, if_neg h9, nl_12, nl_92, nl_8, nl_1, nl_2, pk_mul, nI_add, nI_add, nI_add, nI_add, nI_add, nI_add, nI_add, if_pos (xin_nI (show 5 + vC v + 2 * K < 1600 by omega) (by omega)), if_pos (xin_nI (show 12 + 8 * i + r < 303 by omega) (by omega)), if_pos (xin_nI (show 5 + vC v + 2 * K + 1 < 1600 by omega) (by omega)), if_pos (xin_nI (show 92 + 8 * i + r < 303 by omega) (by omega)), nI_clamp (show 5 + vC v + 2 * K < 2 ^ 31 by omega), nI_clamp (show 12 + 8 * i + r < 2 ^ 31 by omega), nI_clamp (show 5 + vC v + 2 * K + 1 < 2 ^ 31 by omega), nI_clamp (show 92 + 8 * i + r < 2 ^ 31 by omega), tA_sA, if_neg (by omega), (hB' (5 + vC v + 2 * K) (by omega)).1, (hB' (5 + vC v + 2 * K + 1) (by omega)).1]
    refine OK_some (Or.inl ⟨_, rfl, sA (sA q 62 (12 + 8 * i + r) (nI (B (5 + vC v + 2 * K)))) 62 (92 + 8 * i + r) (nI (B (5 + vC v + 2 * K + 1))), ?_, ?_, (p2.sA rfl).sA rfl⟩)
    · rw [e1]; rfl
    · rw [e1, tA_upd, tA_upd, p1]
      show _ = upd (upd (cellW v B w K) (12 + cel v K) _) (92 + cel v K) _
      rw [ec, ← Nat.add_assoc, ← Nat.add_assoc]
  · rintro s ⟨q, rfl, p1, p2⟩
    have hT' : TV q v := hT.tx p2 ⟨rfl, rfl⟩ ⟨rfl, rfl, rfl, rfl, rfl, rfl⟩
    have h9 : nI (vW v) ≤ nI (vW v) := by rw [nI_leI (by omega) (by omega)]; omega
    show OK (Bt_on_113 (nI i) _ (nI (vW v)) q) _
    unfold Bt_on_113
    rw [T_rowsMany, xbd_some, hT'.1.2.2.1, if_pos h9]
    exact OK_some ⟨_, rfl, rfl, p1, p2⟩
theorem T_onCells (hT : TV τ v) (hb : VB v) (hB : TB8 τ B) (hw : tA τ 62 = w) : OK (itr (fun s_ : Int32 × Int32 × TS => Bt_on_102 s_.1 s_.2.1 s_.2.2) 4096 (nI (5 + vC v), 0, τ)) (fun o => o.1 = nI (lordAt v 0) ∧ tA o.2 62 = cellW v B w (vC v * vW v) ∧ TX no in62 τ o.2) := by
  have hb1 := hb.1
  refine itr_for (fun i s => ∃ q, s = (nI (5 + vC v + 2 * (i * vW v)), nI i, q) ∧ tA q 62 = cellW v B w (i * vW v) ∧ TX no in62 τ q) _ 0 (vC v) ?_ ?_ (by omega) (by omega) ⟨τ, by rw [Nat.zero_mul]; rfl, by rw [Nat.zero_mul]; exact hw, TX.refl _ _ τ⟩
  · rintro i s - hi ⟨q, rfl, p1, p2⟩
    have hT' : TV q v := hT.tx p2 ⟨rfl, rfl⟩ ⟨rfl, rfl, rfl, rfl, rfl, rfl⟩
    have hB' : TB8 q B := hB.of (fun i => p2.2.2.1 0 i rfl)
    have h9 : ¬ nI (vC v) ≤ nI i := by rw [nI_leI (by omega) (by omega)]; omega
    obtain ⟨⟨o1, q2⟩, e1, r1, r2, r3⟩ := T_onCol (i := i) hT' hb hB' hi p1
    have r1 : o1 = nI (5 + vC v + 2 * ((i + 1) * vW v)) := r1
    subst r1
    show OK (Bt_on_102 (nI (5 + vC v + 2 * (i * vW v))) (nI i) q) _
    unfold Bt_on_102
    rw [T_columnMany, xbd_some, hT'.1.2.1, if_neg h9, e1, Option.bind_some, nl_1, nI_add]
    exact OK_some (Or.inl ⟨_, rfl, q2, rfl, r2, p2.trans r3⟩)
  · rintro s ⟨q, rfl, p1, p2⟩
    have hT' : TV q v := hT.tx p2 ⟨rfl, rfl⟩ ⟨rfl, rfl, rfl, rfl, rfl, rfl⟩
    have h9 : nI (vC v) ≤ nI (vC v) := by rw [nI_leI (by omega) (by omega)]; omega
    show OK (Bt_on_102 _ (nI (vC v)) q) _
    unfold Bt_on_102
    rw [T_columnMany, xbd_some, hT'.1.2.1, if_pos h9]
    exact OK_some ⟨_, rfl, rfl, p1, p2⟩
theorem T_onLords (hT : TV τ v) (hb : VB v) (hB : TB8 τ B) (hw : tA τ 62 = w) (hl : allN (lokS v B) (vN v) = true) : OK (itr (fun s_ : Int32 × Int32 × TS => Bt_on_183 s_.1 s_.2.1 s_.2.2) 4096 (nI (lordAt v 0), 0, τ)) (fun q => tA q 62 = lordW v B w (vN v) ∧ TX no in62 τ q) := by
  have hb1 := hb.1
  have hb2 := hb.2.1
  have hb3 := hb.2.2.2.1
  have mono : vC v * vW v ≤ 10 * 8 := Nat.mul_le_mul hb1 hb2
  refine itr_for (fun i s => ∃ q, s = (nI (lordAt v i), nI i, q) ∧ tA q 62 = lordW v B w i ∧ TX no in62 τ q) _ 0 (vN v) ?_ ?_ (by omega) (by omega) ⟨τ, rfl, hw, TX.refl _ _ τ⟩
  · rintro i s - hi ⟨q, rfl, p1, p2⟩
    have hT' : TV q v := hT.tx p2 ⟨rfl, rfl⟩ ⟨rfl, rfl, rfl, rfl, rfl, rfl⟩
    have hB' : TB8 q B := hB.of (fun i => p2.2.2.1 0 i rfl)
    have h9 : ¬ nI (vN v) ≤ nI i := by rw [nI_leI (by omega) (by omega)]; omega
    have lA : lordAt v i ≤ 200 := by unfold lordAt; omega
    have eA : lordAt v (i + 1) = lordAt v i + 3 := by unfold lordAt; omega
    have hlo := (allN_iff (vN v)).mp hl i hi
    have hlo : (decide (B (lordAt v i) ≤ 1) && decide (256 * B (lordAt v i + 1) + B (lordAt v i + 2) ≤ 999)) = true := hlo
    have ew : lordW v B w (i + 1) = upd (upd (lordW v B w i) (172 + 2 * i) (if B (lordAt v i) = 1 then nI 1 else nI 0)) (172 + 2 * i + 1) (nI (256 * B (lordAt v i + 1) + B (lordAt v i + 2))) := rfl
    show OK (Bt_on_183 (nI (lordAt v i)) (nI i) q) _
    unfold Bt_on_183
    generalize lordAt v i = A at *
    simp only [Bool.and_eq_true, decide_eq_true_eq] at hlo
    have hB2 : TB8 (sA q 62 (172 + 2 * i) (nI (B A))) B := hB'.of (fun j => by rw [tA_sA, if_neg (by omega)])
    have e01 : (if B A = 1 then nI 1 else nI 0) = nI (B A) := by
      rcases (show B A = 0 ∨ B A = 1 by omega) with e | e <;> rw [e] <;> rfl
    rw [T_lordMany hT', xbd_some, if_neg h9, if_pos (xin_nI (show A < 1600 by omega) (by omega)), nl_172, nl_2, nl_1, nl_3, pk_mul, nI_add, nI_add, nI_add, nI_add, nI_add, if_pos (xin_nI (show 172 + 2 * i < 303 by omega) (by omega)), nI_clamp (show A < 2 ^ 31 by omega), nI_clamp (show 172 + 2 * i < 2 ^ 31 by omega), (hB' A (by omega)).1, hB2.two2 (j := A + 2) rfl (by omega), xbd_some, if_pos (xin_nI (show 172 + 2 * i + 1 < 303 by omega) (by omega)), nI_clamp (show 172 + 2 * i + 1 < 2 ^ 31 by omega)]
    refine OK_some (Or.inl ⟨_, rfl, sA (sA q 62 (172 + 2 * i) (nI (B A))) 62 (172 + 2 * i + 1) (nI (256 * B (A + 1) + B (A + 2))), ?_, ?_, (p2.sA rfl).sA rfl⟩)
    · rw [eA]
    · rw [ew, tA_upd, tA_upd, p1, e01]
  · rintro s ⟨q, rfl, p1, p2⟩
    have hT' : TV q v := hT.tx p2 ⟨rfl, rfl⟩ ⟨rfl, rfl, rfl, rfl, rfl, rfl⟩
    have h9 : nI (vN v) ≤ nI (vN v) := by rw [nI_leI (by omega) (by omega)]; omega
    show OK (Bt_on_183 _ (nI (vN v)) q) _
    unfold Bt_on_183
    rw [T_lordMany hT', xbd_some, if_pos h9]
    exact OK_some ⟨_, rfl, p1, p2⟩
end ZUs
