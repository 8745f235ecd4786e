/-! PLAIN LAW: making; words of the component -/
set_option maxRecDepth 100000
section ZZB0
variable {g : CG} {c : CC} {t len sl a k i z : Nat}
theorem nG_T : gT (nG g t len sl) a = if a = gz g then t else gT g a := rfl
theorem nG_N : gN (nG g t len sl) a = if a = gz g then len else gN g a := rfl
theorem nG_R : gR (nG g t len sl) k a = if a = gz g then none else gR g k a := rfl
theorem nG_A : gA (nG g t len sl) a i = gA g a i := rfl
theorem nG_z : gz (nG g t len sl) = gz g + 1 := rfl
theorem nG_c : grc (nG g t len sl) = grc g - 1 := rfl
theorem nG_s : grs (nG g t len sl) = grs g - sl := rfl
theorem vR_T {v : Option Nat} {b : Nat} : gT (vR g k b v) a = gT g a := rfl
theorem vR_N {v : Option Nat} {b : Nat} : gN (vR g k b v) a = gN g a := rfl
theorem vR_R {v : Option Nat} {b j : Nat} : gR (vR g k b v) j a = if j = k ∧ a = b then v else gR g j a := rfl
theorem vR_A {v : Option Nat} {b : Nat} : gA (vR g k b v) a i = gA g a i := rfl
theorem vR_z {v : Option Nat} {b : Nat} : gz (vR g k b v) = gz g := rfl
theorem vR_c {v : Option Nat} {b : Nat} : grc (vR g k b v) = grc g := rfl
theorem vR_s {v : Option Nat} {b : Nat} : grs (vR g k b v) = grs g := rfl
theorem zC_I : cI (zC c z) k a = if a = z then 0 else cI c k a := rfl
theorem zC_L : cL (zC c z) k a = if a = z then 0 else cL c k a := rfl
theorem zC_R : cR (zC c z) k a = if a = z then none else cR c k a := rfl
theorem zC_A : cA (zC c z) a i = if a = z then 0 else cA c a i := rfl
theorem zC_P : cP (zC c z) a i = if a = z then none else cP c a i := rfl
theorem zC_e (h : a ≠ z) : Eq1 c (zC c z) a := ⟨fun _ => if_neg h, fun _ => if_neg h, fun _ => if_neg h, fun _ => if_neg h, fun _ => if_neg h, fun _ => if_neg h⟩
end ZZB0
theorem aNew_ok {t : Nat} {τ : CS} (h1 : 1 ≤ grc τ.1) (h2 : kN t ≤ grs τ.1) : aNew t τ = some (gz τ.1, (nG τ.1 t 0 (kN t), zC τ.2 (gz τ.1))) := by
  unfold aNew rmG
  rw [if_pos (by simp [h1, h2])]
theorem aArr_ok {t n : Nat} {τ : CS} (h1 : 1 ≤ grc τ.1) (h2 : n ≤ grs τ.1) (hn : n ≤ 10000) : aArr t (nI n) τ = some (gz τ.1, (nG τ.1 t n n, zC τ.2 (gz τ.1))) := by
  unfold aArr xnew rmG
  have e : (0 : Int32) ≤ nI n := by show nI 0 ≤ nI n; rw [nI_leI (by omega) (by omega)]; omega
  rw [nI_clamp (by omega), if_pos (by simp [h1, h2, e]; omega)]
/-- what stood stays; reading moves the reader's place, its fault -/
def PF (X : Nat) (τ τ' : CS) : Prop := gz τ.1 ≤ gz τ'.1 ∧ AgG 0 (gz τ.1) τ.1 τ'.1 ∧ (∀ a, a < gz τ.1 → a ≠ X + 28 → a ≠ X + 29 → Eq1 τ.2 τ'.2 a) ∧ (∀ k, k ≠ 302 → k ≠ 303 → k ≠ 304 → cI τ'.2 k (X + 28) = cI τ.2 k (X + 28)) ∧ (∀ k, cR τ'.2 k (X + 28) = cR τ.2 k (X + 28))
theorem PF.refl {X : Nat} {τ : CS} : PF X τ τ := ⟨Nat.le_refl _, AgG.refl _ _ _, fun a _ _ _ => Eq1.refl _ a, fun _ _ _ _ => rfl, fun _ => rfl⟩
theorem PF.trans {X : Nat} {τ τ' τ'' : CS} (h : PF X τ τ') (h' : PF X τ' τ'') : PF X τ τ'' := ⟨Nat.le_trans h.1 h'.1, h.2.1.trans (fun a a1 a2 => h'.2.1 a a1 (by have := h.1; omega)), fun a a1 a2 a3 => (h.2.2.1 a a1 a2 a3).trans (h'.2.2.1 a (by have := h.1; omega) a2 a3), fun k k1 k2 k3 => (h'.2.2.2.1 k k1 k2 k3).trans (h.2.2.2.1 k k1 k2 k3), fun k => (h'.2.2.2.2 k).trans (h.2.2.2.2 k)⟩
theorem PR.pf {X : Nat} {g : CG} {c c' : CC} (h : PR X c c') : PF X (g, c) (g, c') := ⟨Nat.le_refl _, AgG.refl _ _ _, fun a _ a2 a3 => h.1 a a2 a3, h.2.1, h.2.2⟩
/-- letters lie on the tape as they are -/
def CL8 (c : CC) (X : Nat) (B : Nat → Nat) : Prop := ∀ i, i < 1600 → B i < 128 → cA c (X + 27) i = nI (B i)
theorem ch_c : ∀ x, x < 128 → (((nI x).toUInt32 % 65536).toInt32).toUInt32.toUInt16.toUInt32.toInt32 = nI x := by decide +kernel
theorem ch_8 : ∀ x, x < 128 → ((nI x).toInt8.toInt32).toInt8.toInt32 = nI x := by decide +kernel
section ZZB
variable {g : CG} {c c' c'' : CC} {τ : CS} {X n m : Nat} {B : Nat → Nat}
theorem C_run (hg : RDG g X) : ∀ d b c, b + d = n → RdC c X n B b → ∀ f, d < f → itr (fun s_ : CS => Bc_X2_word_2_32 (X + 28) s_) f (g, c) = some (g, uI c 302 (X + 28) (nI (we B n b))) := by
  intro d
  induction d with
  | zero =>
    intro b c hb hr f hf
    obtain ⟨f', rfl⟩ : ∃ f', f = f' + 1 := ⟨f - 1, by omega⟩
    have hn := hr.2.1
    have e : b = n := hb
    rw [show uI c 302 (X + 28) (nI (we B n b)) = c from uI_same (by rw [hr.2.2.2.1, e, we_n])]
    refine itr_inr ?_
    show Bc_X2_word_2_32 (X + 28) (g, c) = _
    unfold Bc_X2_word_2_32
    dsimp only
    rw [if_pos hg.2.2.1, hr.2.2.2.1, C_rby hg hr.1 hn hr.2.2.1 (by omega), xbd_some, show cur B n b = 256 by unfold cur; rw [if_neg (by omega)], C_isLetter (by omega), xbd_some, if_pos (show b32 (ltB 256) = 0 by decide)]
  | succ d ih =>
    intro b c hb hr f hf
    obtain ⟨f', rfl⟩ : ∃ f', f = f' + 1 := ⟨f - 1, by omega⟩
    have hn := hr.2.1
    have hbb := (hr.1 b (by omega)).2
    have body : Bc_X2_word_2_32 (X + 28) (g, c) = if ltB (B b) = true then some (.inl (g, uI c 302 (X + 28) (nI (b + 1)))) else some (.inr (g, c)) := by
      unfold Bc_X2_word_2_32
      dsimp only
      rw [if_pos hg.2.2.1, hr.2.2.2.1, C_rby hg hr.1 hn hr.2.2.1 (by omega), xbd_some, show cur B n b = B b by unfold cur; rw [if_pos (by omega)], C_isLetter (by omega), xbd_some, hr.2.2.2.1, nl_1, nI_add]
      cases ltB (B b)
      · rw [if_pos (show b32 false = 0 by decide), if_neg (by decide)]
      · rw [if_neg (show ¬ b32 true = 0 by decide), if_pos rfl]
    by_cases hbl : ltB (B b) = true
    · rw [if_pos hbl] at body
      rw [itr_inl (a' := (_, _)) body, ih (b + 1) _ (by omega) (hr.to (by omega)) f' (by omega), uI_uI, we_b (by omega) hbl]
    · rw [if_neg hbl] at body
      rw [itr_inr (b := (_, _)) body, we_s (by omega) (by simpa using hbl), uI_same hr.2.2.2.1]
/-- letters go to a row of chars -/
theorem C_fill {z p e : Nat} (hg : RDG g X) (hz : X + 30 ≤ z) (hT : gT g z = 102) (hN : gN g z = e - p) (hpe : p ≤ e) (he : e ≤ n) (hr : RdC c X n B e) (h303 : cI c 303 (X + 28) = nI p) (hL : CL8 c X B) (hl : ∀ i, p ≤ i → i < e → ltB (B i) = true) :
    OK (itr (fun s_ : Int32 × CS => Bc_X2_word_2_76 (X + 28) z s_.1 s_.2) 4096 (nI p, (g, c))) (fun τ' => τ'.1 = g ∧ (∀ i, i < e - p → cA τ'.2 z i = nI (B (p + i))) ∧ ∀ a, a ≠ z → Eq1 c τ'.2 a) := by
  have hn := hr.2.1
  refine itr_for (fun k s => ∃ c', s = (nI k, (g, c')) ∧ (∀ i, i < k - p → cA c' z i = nI (B (p + i))) ∧ ∀ a, a ≠ z → Eq1 c c' a) _ p e ?_ ?_ (by omega) hpe ⟨c, rfl, fun i hi => by omega, fun a _ => Eq1.refl c a⟩
  · rintro k s hk1 hk2 ⟨c', rfl, q1, q2⟩
    have hb := ltB_b (hl k hk1 hk2)
    show OK (Bc_X2_word_2_76 (X + 28) z (nI k) (g, c')) _
    unfold Bc_X2_word_2_76
    dsimp only
    rw [if_pos hg.2.2.1, (q2 (X + 28) (by omega)).1, hr.2.2.2.1, if_neg (by rw [nI_leI (by omega) (by omega)]; omega), hg.2.2.2.2.2.1, Option.bind_some, if_pos hg.1, hg.2.2.2.2.2.2.1, Option.bind_some, if_pos hg.2.2.2.2.2.2.2.1, hg.2.2.2.2.2.2.2.2, if_pos (xin_nI (show k < 1600 by omega) (by omega)), if_pos hT, (q2 (X + 28) (by omega)).1, h303, pk_sub hk1, hN, if_pos (xin_nI (show k - p < e - p by omega) (by omega)), nI_clamp (show k < 2 ^ 31 by omega), nI_clamp (show k - p < 2 ^ 31 by omega), (q2 (X + 27) (by omega)).2.2.2.1, hL k (by omega) (by omega), ch_c _ (by omega), nl_1, nI_add]
    refine OK_some (Or.inl ⟨_, rfl, _, rfl, fun i hi => ?_, fun a ha => (q2 a ha).uA ha⟩)
    rw [cA_uA]
    by_cases ei : i = k - p
    · subst ei; rw [if_pos ⟨rfl, rfl⟩, show p + (k - p) = k by omega]
    · rw [if_neg (fun z => ei z.2)]; exact q1 i (by omega)
  · rintro s ⟨c', rfl, q1, q2⟩
    show OK (Bc_X2_word_2_76 (X + 28) z (nI e) (g, c')) _
    unfold Bc_X2_word_2_76
    dsimp only
    rw [if_pos hg.2.2.1, (q2 (X + 28) (by omega)).1, hr.2.2.2.1, if_pos (by rw [nI_leI (by omega) (by omega)]; omega)]
    exact OK_some ⟨_, rfl, rfl, q1, q2⟩
/-- chars go to a row of bytes -/
theorem C_compress {s d N : Nat} {W : Nat → Nat} (hsd : s ≠ d) (hs : gT g s = 102) (hd : gT g d = 103) (hsN : gN g s = N) (hdN : gN g d = N) (hN : N ≤ 1600) (hW : ∀ i, i < N → cA c s i = nI (W i) ∧ W i < 128) :
    OK (f_c_J7_compress_2 g s (nI 0) d 0 (nI N) c) (fun o => o.1 = nI N ∧ (∀ i, i < N → cA o.2 d i = nI (W i)) ∧ ∀ a, a ≠ d → Eq1 c o.2 a) := by
  have key : OK (itr (fun s_ : Int32 × Int32 × Int32 × CC => Bc_J7_compress_2_3 g s d (nI N) s_.1 s_.2.1 s_.2.2.1 s_.2.2.2) 4096 (nI 0, 0, 0, c)) (fun o => ∃ c', o = .inl c' ∧ (∀ i, i < N → cA c' d i = nI (W i)) ∧ ∀ a, a ≠ d → Eq1 c c' a) := by
    refine itr_for (fun k st => ∃ c', st = (nI k, nI k, nI k, c') ∧ (∀ i, i < k → cA c' d i = nI (W i)) ∧ ∀ a, a ≠ d → Eq1 c c' a) _ 0 N ?_ ?_ (by omega) (by omega) ⟨c, rfl, fun i hi => absurd hi (Nat.not_lt_zero i), fun a _ => Eq1.refl c a⟩
    · rintro k st - hk ⟨c', rfl, q1, q2⟩
      obtain ⟨w1, w2⟩ := hW k hk
      show OK (Bc_J7_compress_2_3 g s d (nI N) (nI k) (nI k) (nI k) c') _
      unfold Bc_J7_compress_2_3
      rw [if_neg (by rw [nI_leI (by omega) (by omega)]; omega), if_pos hs, hsN, if_pos (xin_nI hk (by omega)), nI_clamp (show k < 2 ^ 31 by omega), (q2 s hsd).2.2.2.1, w1, if_pos (show nI (W k) ≤ 255 by show nI (W k) ≤ nI 255; rw [nI_leI (by omega) (by omega)]; omega), if_pos hd, hdN, if_pos (xin_nI hk (by omega)), ch_8 _ w2, nl_1, nI_add]
      refine OK_some (Or.inl ⟨_, rfl, _, rfl, fun i hi => ?_, fun a ha => (q2 a ha).uA ha⟩)
      rw [cA_uA]
      by_cases ei : i = k
      · subst ei; rw [if_pos ⟨rfl, rfl⟩]
      · rw [if_neg (fun z => ei z.2)]; exact q1 i (by omega)
    · rintro st ⟨c', rfl, q1, q2⟩
      show OK (Bc_J7_compress_2_3 g s d (nI N) (nI N) (nI N) (nI N) c') _
      unfold Bc_J7_compress_2_3
      rw [if_pos (by rw [nI_leI (by omega) (by omega)]; omega)]
      exact OK_some ⟨_, rfl, c', rfl, q1, q2⟩
  obtain ⟨o, e, c', rfl, q1, q2⟩ := key
  unfold f_c_J7_compress_2
  rw [e, Option.bind_some, Sum.elim_inl]
  exact OK_some ⟨rfl, q1, q2⟩
end ZZB
