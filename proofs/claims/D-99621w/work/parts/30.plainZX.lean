/-! PLAIN LAW: reading: bytes, blanks, letters of both -/
set_option maxRecDepth 100000
def blB (x : Nat) : Bool := x == 32 || x == 10
def ltB (x : Nat) : Bool := decide (97 ≤ x) && decide (x ≤ 122)
def dgB (x : Nat) : Bool := decide (48 ≤ x) && decide (x ≤ 57)
/-- the byte at a place; 256 behind the end -/
def cur (B : Nat → Nat) (n p : Nat) : Nat := if p < n then B p else 256
def chI (x : Nat) : Int32 := if x = 256 then -1 else nI x
/-- behind blanks -/
def skN (B : Nat → Nat) : Nat → Nat → Nat
  | 0, a => a
  | d + 1, a => if blB (B a) = true then skN B d (a + 1) else a
def sk (B : Nat → Nat) (n a : Nat) : Nat := skN B (n - a) a
/-- a letter or digit stands just ahead -/
def alB (B : Nat → Nat) (p : Nat) : Bool := decide (0 < p) && (ltB (B (p - 1)) || dgB (B (p - 1)))
theorem sk_n {B : Nat → Nat} {n : Nat} : sk B n n = n := by unfold sk; rw [Nat.sub_self]; rfl
theorem sk_b {B : Nat → Nat} {n a : Nat} (h : a < n) (hb : blB (B a) = true) : sk B n a = sk B n (a + 1) := by
  unfold sk
  obtain ⟨d, hd⟩ : ∃ d, n - a = d + 1 := ⟨n - a - 1, by omega⟩
  rw [hd, show n - (a + 1) = d by omega]
  show (if blB (B a) = true then skN B d (a + 1) else a) = _
  rw [if_pos hb]
theorem sk_s {B : Nat → Nat} {n a : Nat} (h : a < n) (hb : blB (B a) = false) : sk B n a = a := by
  unfold sk
  obtain ⟨d, hd⟩ : ∃ d, n - a = d + 1 := ⟨n - a - 1, by omega⟩
  rw [hd]
  show (if blB (B a) = true then skN B d (a + 1) else a) = _
  rw [if_neg (by rw [hb]; decide)]
theorem sk_le {B : Nat → Nat} {n : Nat} : ∀ d a, a + d = n → a ≤ sk B n a ∧ sk B n a ≤ n ∧ (sk B n a = n ∨ blB (B (sk B n a)) = false)
  | 0, a, h => by
    have e : a = n := h
    subst e
    rw [sk_n]
    exact ⟨Nat.le_refl _, Nat.le_refl _, Or.inl rfl⟩
  | d + 1, a, h => by
    by_cases hb : blB (B a) = true
    · have ih := sk_le (B := B) (n := n) d (a + 1) (by omega)
      rw [sk_b (by omega) hb]
      exact ⟨by omega, ih.2⟩
    · have hb : blB (B a) = false := by simpa using hb
      rw [sk_s (by omega) hb]
      exact ⟨Nat.le_refl _, by omega, Or.inr hb⟩
theorem sk_g {B : Nat → Nat} {n a : Nat} (h : a ≤ n) : a ≤ sk B n a ∧ sk B n a ≤ n ∧ (sk B n a = n ∨ blB (B (sk B n a)) = false) := sk_le (n - a) a (by omega)
theorem sk_i {B : Nat → Nat} {n a : Nat} (h : a ≤ n) : sk B n (sk B n a) = sk B n a := by
  obtain ⟨h1, h2, h3⟩ := sk_g (B := B) h
  rcases h3 with e | e
  · rw [e, sk_n]
  · by_cases h4 : sk B n a = n
    · rw [h4, sk_n]
    · exact sk_s (by omega) e
theorem uI_same {c : CC} {k a : Nat} {x : Int32} (h : cI c k a = x) : uI c k a x = c := by
  unfold uI
  rw [show up2 c.1 k a x = c.1 from funext (fun j => funext (fun b => by
    unfold up2
    by_cases e : j = k ∧ b = a
    · rw [if_pos e, e.1, e.2]; exact h.symm
    · rw [if_neg e]))]
theorem uI_uI {c : CC} {k a : Nat} {x y : Int32} : uI (uI c k a x) k a y = uI c k a y := by
  unfold uI
  show (up2 (up2 c.1 k a x) k a y, c.2) = _
  rw [show up2 (up2 c.1 k a x) k a y = up2 c.1 k a y from funext (fun j => funext (fun b => by
    unfold up2
    by_cases e : j = k ∧ b = a
    · rw [if_pos e, if_pos e]
    · rw [if_neg e, if_neg e, if_neg e]))]
theorem sI_same {τ : TS} {k : Nat} {x : Int32} (h : tI τ k = x) : sI τ k x = τ := by
  unfold sI
  rw [show (fun j => if j = k then x else τ.1 j) = τ.1 from funext (fun j => by
    by_cases e : j = k
    · rw [if_pos e, e]; exact h.symm
    · rw [if_neg e])]
theorem sI_sI {τ : TS} {k : Nat} {x y : Int32} : sI (sI τ k x) k y = sI τ k y := by
  unfold sI
  congr 1
  exact funext (fun j => by
    by_cases e : j = k
    · rw [if_pos e, if_pos e]
    · rw [if_neg e, if_neg e]
      show (if j = k then x else τ.1 j) = _
      rw [if_neg e])
theorem ch_ne {x y : Nat} (hx : x ≤ 256) (hy : y < 256) : chI x = nI y ↔ x = y := by
  unfold chI
  by_cases e : x = 256
  · rw [if_pos e]
    exact ⟨fun z => absurd z.symm (nI_m1ne (by omega)), fun z => by omega⟩
  · rw [if_neg e]
    exact nI_eq (by omega) (by omega)
theorem ch_m1 {x : Nat} (hx : x ≤ 256) : chI x = -1 ↔ x = 256 := by
  unfold chI
  by_cases e : x = 256
  · rw [if_pos e]; exact ⟨fun _ => e, fun _ => rfl⟩
  · rw [if_neg e]; exact ⟨fun z => absurd z (nI_m1ne (by omega)), fun z => absurd z e⟩
theorem ch_all : ∀ x, x < 257 → ((chI x < 97) ↔ ¬ (97 ≤ x ∧ x ≠ 256)) ∧ ((122 < chI x) ↔ (122 < x ∧ x ≠ 256)) ∧ ((chI x < 48) ↔ ¬ (48 ≤ x ∧ x ≠ 256)) ∧ ((57 < chI x) ↔ (57 < x ∧ x ≠ 256)) := by decide +kernel
section ZXs
variable {g : CG} {c c' : CC} {τ τ' q : TS} {X V s lo hi n m : Nat} {v : VD} {B : Nat → Nat}
theorem C_isLetter {x : Nat} (hx : x ≤ 256) : f_c_X0_isLetter g (chI x) c = some (b32 (ltB x), c) := by
  obtain ⟨h1, h2, -⟩ := ch_all x (by omega)
  unfold f_c_X0_isLetter ltB
  by_cases a : chI x < 97
  · rw [if_pos a]
    rw [h1] at a
    by_cases e : 97 ≤ x
    · rw [decide_eq_false (show ¬ x ≤ 122 by omega), Bool.and_false]; rfl
    · rw [decide_eq_false e, Bool.false_and]; rfl
  · rw [if_neg a]
    rw [h1] at a
    by_cases b : 122 < chI x
    · rw [if_pos b]
      rw [h2] at b
      rw [decide_eq_false (show ¬ x ≤ 122 by omega), Bool.and_false]; rfl
    · rw [if_neg b]
      rw [h2] at b
      rw [decide_eq_true (show 97 ≤ x by omega), decide_eq_true (show x ≤ 122 by omega)]; rfl
theorem C_isDigit {x : Nat} (hx : x ≤ 256) : f_c_X0_isDigit g (chI x) c = some (b32 (dgB x), c) := by
  obtain ⟨-, -, h1, h2⟩ := ch_all x (by omega)
  unfold f_c_X0_isDigit dgB
  by_cases a : chI x < 48
  · rw [if_pos a]
    rw [h1] at a
    by_cases e : 48 ≤ x
    · rw [decide_eq_false (show ¬ x ≤ 57 by omega), Bool.and_false]; rfl
    · rw [decide_eq_false e, Bool.false_and]; rfl
  · rw [if_neg a]
    rw [h1] at a
    by_cases b : 57 < chI x
    · rw [if_pos b]
      rw [h2] at b
      rw [decide_eq_false (show ¬ x ≤ 57 by omega), Bool.and_false]; rfl
    · rw [if_neg b]
      rw [h2] at b
      rw [decide_eq_true (show 48 ≤ x by omega), decide_eq_true (show x ≤ 57 by omega)]; rfl
theorem T_isLetter {x : Nat} (hx : x ≤ 256) : f_t_isLetter (chI x) τ = some (b32 (ltB x), τ) := by
  have := C_isLetter (g := default) (c := default) hx
  unfold f_c_X0_isLetter Jc_X0_isLetter_16 at this
  unfold f_t_isLetter Jt_isLetter_16
  by_cases a : chI x < 97
  · rw [if_pos a] at this ⊢; rw [(Prod.mk.inj (Option.some.inj this)).1]
  · rw [if_neg a] at this ⊢
    by_cases b : 122 < chI x
    · rw [if_pos b] at this ⊢; rw [(Prod.mk.inj (Option.some.inj this)).1]
    · rw [if_neg b] at this ⊢; rw [(Prod.mk.inj (Option.some.inj this)).1]
theorem T_isDigit {x : Nat} (hx : x ≤ 256) : f_t_isDigit (chI x) τ = some (b32 (dgB x), τ) := by
  have := C_isDigit (g := default) (c := default) hx
  unfold f_c_X0_isDigit Jc_X0_isDigit_16 at this
  unfold f_t_isDigit Jt_isDigit_16
  by_cases a : chI x < 48
  · rw [if_pos a] at this ⊢; rw [(Prod.mk.inj (Option.some.inj this)).1]
  · rw [if_neg a] at this ⊢
    by_cases b : 57 < chI x
    · rw [if_pos b] at this ⊢; rw [(Prod.mk.inj (Option.some.inj this)).1]
    · rw [if_neg b] at this ⊢; rw [(Prod.mk.inj (Option.some.inj this)).1]
/-- the component's reader: cells -/
def RDG (g : CG) (X : Nat) : Prop := gT g X = 1 ∧ gR g 105 X = some (X + 28) ∧ gT g (X + 28) = 3 ∧ gR g 300 (X + 28) = some (X + 29) ∧ gT g (X + 29) = 4 ∧ gR g 307 (X + 28) = some X ∧ TG g X
/-- it reads bytes B, n of them, stands at a -/
def RdC (c : CC) (X n : Nat) (B : Nat → Nat) (a : Nat) : Prop := CB8 c X B ∧ n ≤ 1600 ∧ cI c 301 (X + 28) = nI n ∧ cI c 302 (X + 28) = nI a ∧ a ≤ n
theorem cur_le (hB : ∀ i, i < 1600 → B i < 256) (hn : n ≤ 1600) {p : Nat} : cur B n p ≤ 256 := by
  unfold cur
  split
  · have := hB p (by omega); omega
  · omega
theorem C_rby {k : Nat} (hg : RDG g X) (hB : CB8 c X B) (hn : n ≤ 1600) (h301 : cI c 301 (X + 28) = nI n) (hk : k ≤ 1600) : f_c_X2_byteAt g (X + 28) (nI k) c = some (chI (cur B n k), c) := by
  unfold f_c_X2_byteAt Jc_X2_byteAt_28 cur
  rw [if_neg (show ¬ nI k < 0 from nI_pos (by omega)), if_pos hg.2.2.1, h301]
  by_cases h : k < n
  · rw [if_neg (by rw [nI_leI (by omega) (by omega)]; omega), hg.2.2.2.2.2.1, Option.bind_some, if_pos hg.1, hg.2.2.2.2.2.2.1, Option.bind_some, if_pos hg.2.2.2.2.2.2.2.1, hg.2.2.2.2.2.2.2.2, if_pos (xin_nI (show k < 1600 by omega) (by omega)), nI_clamp (show k < 2 ^ 31 by omega), (hB k (by omega)).1, if_pos h]
    have := (hB k (by omega)).2
    unfold chI
    rw [if_neg (by omega)]
  · rw [if_pos (by rw [nI_leI (by omega) (by omega)]; omega), if_neg h]; rfl
theorem RdC.to {b : Nat} (h : RdC c X n B m) (hb : b ≤ n) : RdC (uI c 302 (X + 28) (nI b)) X n B b := ⟨h.1.of ((Eq1.refl c _).uI (by omega)), h.2.1, by rw [cI_uI, if_neg (by omega)]; exact h.2.2.1, by rw [cI_uI, if_pos ⟨rfl, rfl⟩], hb⟩
theorem C_hereL (hg : RDG g X) : ∀ d a c, a + d = n → RdC c X n B a → ∀ f, d < f → itr (fun s_ : CC => Bc_X2_here_0 g (X + 28) s_) f c = some (uI c 302 (X + 28) (nI (sk B n a))) := by
  intro d
  induction d with
  | zero =>
    intro a c ha h f hf
    obtain ⟨f', rfl⟩ : ∃ f', f = f' + 1 := ⟨f - 1, by omega⟩
    have e : a = n := ha
    have hb : ∀ i, i < 1600 → B i < 256 := fun i hi => (h.1 i hi).2
    have hc := cur_le (n := n) (p := a) hb h.2.1
    have hc2 : cur B n a = 256 := by unfold cur; rw [if_neg (by omega)]
    rw [itr_inr (b := c)]
    · rw [show sk B n a = a by rw [e, sk_n], uI_same h.2.2.2.1]
    · show Bc_X2_here_0 g (X + 28) c = _
      have hn := h.2.1
      unfold Bc_X2_here_0
      rw [if_pos hg.2.2.1, h.2.2.2.1, C_rby hg h.1 h.2.1 h.2.2.1 (by omega), xbd_some, hc2, if_neg (by decide), h.2.2.2.1, C_rby hg h.1 h.2.1 h.2.2.1 (by omega), xbd_some, hc2, if_neg (by decide)]
  | succ d ih =>
    intro a c ha h f hf
    obtain ⟨f', rfl⟩ : ∃ f', f = f' + 1 := ⟨f - 1, by omega⟩
    have hn := h.2.1
    have hb := (h.1 a (by omega)).2
    have hc2 : cur B n a = B a := by unfold cur; rw [if_pos (by omega)]
    have e32 : (chI (B a) = 32) ↔ B a = 32 := ch_ne (y := 32) (by omega) (by decide)
    have e10 : (chI (B a) = 10) ↔ B a = 10 := ch_ne (y := 10) (by omega) (by decide)
    have j26 : Jc_X2_here_26 g (X + 28) c = some (.inl (uI c 302 (X + 28) (nI (a + 1)))) := by
      unfold Jc_X2_here_26
      rw [if_pos hg.2.2.1, h.2.2.2.1, nl_1, nI_add]
    have body : Bc_X2_here_0 g (X + 28) c = if blB (B a) = true then some (.inl (uI c 302 (X + 28) (nI (a + 1)))) else some (.inr c) := by
      unfold Bc_X2_here_0 blB
      rw [if_pos hg.2.2.1, h.2.2.2.1, C_rby hg h.1 h.2.1 h.2.2.1 (by omega), xbd_some, hc2, h.2.2.2.1, C_rby hg h.1 h.2.1 h.2.2.1 (by omega), xbd_some, hc2, j26]
      by_cases x1 : B a = 32
      · rw [if_pos (e32.mpr x1), x1]; rfl
      · rw [if_neg (fun z => x1 (e32.mp z))]
        by_cases x2 : B a = 10
        · rw [if_pos (e10.mpr x2), x2]; rfl
        · rw [if_neg (fun z => x2 (e10.mp z)), if_neg (by simp [x1, x2])]
    by_cases hbl : blB (B a) = true
    · rw [if_pos hbl] at body
      rw [itr_inl (a' := uI c 302 (X + 28) (nI (a + 1))) body, ih (a + 1) _ (by omega) (h.to (by omega)) f' (by omega), uI_uI, sk_b (by omega) hbl]
    · rw [if_neg hbl] at body
      rw [itr_inr (b := c) body, sk_s (by omega) (by simpa using hbl), uI_same h.2.2.2.1]
theorem C_here {a : Nat} (hg : RDG g X) (h : RdC c X n B a) : f_c_X2_here g (X + 28) c = some (chI (cur B n (sk B n a)), uI c 302 (X + 28) (nI (sk B n a))) := by
  have hn := h.2.1
  have ha := h.2.2.2.2
  have hs := (sk_g (B := B) ha).2.1
  have h' := h.to hs
  unfold f_c_X2_here
  rw [C_hereL hg (n - a) a c (by omega) h 4096 (by omega), Option.bind_some, if_pos hg.2.2.1, h'.2.2.2.1, C_rby hg h'.1 h'.2.1 h'.2.2.1 (by omega), xbd_some]
/-! the twin's -/
def RdT (τ : TS) (n : Nat) (B : Nat → Nat) (a : Nat) : Prop := TB8 τ B ∧ n ≤ 1600 ∧ tI τ 3 = nI n ∧ tI τ 2 = nI a ∧ a ≤ n
theorem RdT.to {b : Nat} (h : RdT τ n B m) (hb : b ≤ n) : RdT (sI τ 2 (nI b)) n B b := ⟨h.1, h.2.1, by rw [tI_sI, if_neg (by omega)]; exact h.2.2.1, by rw [tI_sI, if_pos rfl], hb⟩
theorem T_lookL : ∀ d a τ, a + d = n → RdT τ n B a → ∀ f, d < f → itr (fun s_ : TS => Bt_look_0 s_) f τ = some (sI τ 2 (nI (sk B n a))) := by
  intro d
  induction d with
  | zero =>
    intro a τ ha h f hf
    obtain ⟨f', rfl⟩ : ∃ f', f = f' + 1 := ⟨f - 1, by omega⟩
    have e : a = n := ha
    have hn := h.2.1
    rw [itr_inr (b := τ)]
    · rw [show sk B n a = a by rw [e, sk_n], sI_same h.2.2.2.1]
    · show Bt_look_0 τ = _
      unfold Bt_look_0
      rw [h.2.2.1, h.2.2.2.1, if_pos (by rw [nI_leI (by omega) (by omega)]; omega)]
  | succ d ih =>
    intro a τ ha h f hf
    obtain ⟨f', rfl⟩ : ∃ f', f = f' + 1 := ⟨f - 1, by omega⟩
    have hn := h.2.1
    have hb := (h.1 a (by omega)).2
    have body : Bt_look_0 τ = if blB (B a) = true then some (.inl (sI τ 2 (nI (a + 1)))) else some (.inr τ) := by
      unfold Bt_look_0 Jt_look_39 blB
      rw [h.2.2.1, h.2.2.2.1, if_neg (by rw [nI_leI (by omega) (by omega)]; omega), if_pos (xin_nI (show a < 1600 by omega) (by omega)), nI_clamp (show a < 2 ^ 31 by omega), (h.1 a (by omega)).1, if_pos (xin_nI (show a < 1600 by omega) (by omega)), nl_10, nl_32, nl_1, nI_add]
      by_cases x1 : B a = 10
      · rw [if_pos (by rw [x1]), x1]; rfl
      · rw [if_neg (by rw [nI_eq (by omega) (by omega)]; exact x1)]
        by_cases x2 : B a = 32
        · rw [if_pos (by rw [x2]), x2]; rfl
        · rw [if_neg (by rw [nI_eq (by omega) (by omega)]; exact x2), if_neg (by simp [x1, x2])]
    by_cases hbl : blB (B a) = true
    · rw [if_pos hbl] at body
      rw [itr_inl (a' := sI τ 2 (nI (a + 1))) body, ih (a + 1) _ (by omega) (h.to (by omega)) f' (by omega), sI_sI, sk_b (by omega) hbl]
    · rw [if_neg hbl] at body
      rw [itr_inr (b := τ) body, sk_s (by omega) (by simpa using hbl), sI_same h.2.2.2.1]
theorem T_look {a : Nat} (h : RdT τ n B a) : f_t_look τ = some (chI (cur B n (sk B n a)), sI τ 2 (nI (sk B n a))) := by
  have hn := h.2.1
  have ha := h.2.2.2.2
  have hs := (sk_g (B := B) ha).2.1
  have h' := h.to hs
  unfold f_t_look Jt_look_52
  rw [T_lookL (n - a) a τ (by omega) h 4096 (by omega), Option.bind_some, h'.2.2.1, h'.2.2.2.1]
  unfold cur
  by_cases hq : sk B n a < n
  · rw [if_neg (by rw [nI_leI (by omega) (by omega)]; omega), if_pos (xin_nI (show sk B n a < 1600 by omega) (by omega)), nI_clamp (show sk B n a < 2 ^ 31 by omega), (h'.1 _ (by omega)).1, if_pos hq]
    have := (h'.1 (sk B n a) (by omega)).2
    unfold chI
    rw [if_neg (by omega)]
  · rw [if_pos (by rw [nI_leI (by omega) (by omega)]; omega), if_neg hq]; rfl
end ZXs
