/-! PLAIN LAW: rules of the plain functions: options, loops; small numbers -/
set_option maxRecDepth 100000
/-- it answers, and so -/
def OK {α : Type} (o : Option α) (Q : α → Prop) : Prop := ∃ v, o = some v ∧ Q v
def OK2 {α β : Type} (o : Option α) (p : Option β) (Q : α → β → Prop) : Prop := ∃ v w, o = some v ∧ p = some w ∧ Q v w
theorem OK_some {α : Type} {v : α} {Q : α → Prop} (h : Q v) : OK (some v) Q := ⟨v, rfl, h⟩
theorem OK_of {α : Type} {o : Option α} {v : α} {Q : α → Prop} (e : o = some v) (h : Q v) : OK o Q := ⟨v, e, h⟩
theorem OK_eq {α : Type} {o p : Option α} {Q : α → Prop} (e : o = p) (h : OK p Q) : OK o Q := e ▸ h
theorem OK_mono {α : Type} {o : Option α} {P Q : α → Prop} (h : OK o P) (k : ∀ v, P v → Q v) : OK o Q := ⟨h.choose, h.choose_spec.1, k _ h.choose_spec.2⟩
theorem OK_bind {α β : Type} {o : Option α} {f : α → Option β} {P : α → Prop} {Q : β → Prop} (h : OK o P) (k : ∀ v, P v → OK (f v) Q) : OK (o.bind f) Q := by
  obtain ⟨v, e, hv⟩ := h
  rw [e]
  exact k v hv
theorem OK_bd {R S T : Type} {o : Option (R × S)} {f : R → S → Option T} {P : R × S → Prop} {Q : T → Prop} (h : OK o P) (k : ∀ r s, P (r, s) → OK (f r s) Q) : OK (xbd o f) Q := by
  obtain ⟨⟨r, s⟩, e, hv⟩ := h
  rw [e]
  exact k r s hv
theorem xbd_some {R S T : Type} {r : R} {s : S} {f : R → S → Option T} : xbd (some (r, s)) f = f r s := rfl
theorem xbd_of {R S T : Type} {o : Option (R × S)} {r : R} {s : S} {f : R → S → Option T} (h : o = some (r, s)) : xbd o f = f r s := by rw [h]; rfl
theorem bind_of {α β : Type} {o : Option α} {v : α} {f : α → Option β} (h : o = some v) : o.bind f = f v := by rw [h]; rfl
theorem OK_if {α : Type} {c : Prop} [Decidable c] {a b : Option α} {Q : α → Prop} (h1 : c → OK a Q) (h2 : ¬ c → OK b Q) : OK (if c then a else b) Q := by
  by_cases h : c
  · rw [if_pos h]; exact h1 h
  · rw [if_neg h]; exact h2 h
theorem OK2_some {α β : Type} {v : α} {w : β} {Q : α → β → Prop} (h : Q v w) : OK2 (some v) (some w) Q := ⟨v, w, rfl, rfl, h⟩
theorem OK2_eq {α β : Type} {o o' : Option α} {p p' : Option β} {Q : α → β → Prop} (e : o = o') (e' : p = p') (h : OK2 o' p' Q) : OK2 o p Q := by rw [e, e']; exact h
theorem OK2_mono {α β : Type} {o : Option α} {p : Option β} {P Q : α → β → Prop} (h : OK2 o p P) (k : ∀ v w, P v w → Q v w) : OK2 o p Q := by
  obtain ⟨v, w, e1, e2, hp⟩ := h
  exact ⟨v, w, e1, e2, k v w hp⟩
theorem OK2_bind {α β γ δ : Type} {o : Option α} {p : Option β} {f : α → Option γ} {g : β → Option δ} {P : α → β → Prop} {Q : γ → δ → Prop} (h : OK2 o p P) (k : ∀ v w, P v w → OK2 (f v) (g w) Q) : OK2 (o.bind f) (p.bind g) Q := by
  obtain ⟨v, w, e1, e2, hp⟩ := h
  rw [e1, e2]
  exact k v w hp
theorem OK2_bd {R S R' S' T T' : Type} {o : Option (R × S)} {p : Option (R' × S')} {f : R → S → Option T} {g : R' → S' → Option T'} {P : R × S → R' × S' → Prop} {Q : T → T' → Prop} (h : OK2 o p P) (k : ∀ r s r' s', P (r, s) (r', s') → OK2 (f r s) (g r' s') Q) : OK2 (xbd o f) (xbd p g) Q := by
  obtain ⟨⟨r, s⟩, ⟨r', s'⟩, e1, e2, hp⟩ := h
  rw [e1, e2]
  exact k r s r' s' hp
theorem OK2_l {α β : Type} {o : Option α} {p : Option β} {Q : α → β → Prop} (h : OK o (fun v => OK p (fun w => Q v w))) : OK2 o p Q := by
  obtain ⟨v, e, w, e', q⟩ := h
  exact ⟨v, w, e, e', q⟩
theorem itr_inl {α β : Type} {B : α → Option (α ⊕ β)} {n : Nat} {a a' : α} (h : B a = some (.inl a')) : itr B (n + 1) a = itr B n a' := by
  rw [itr, h]
theorem itr_inr {α β : Type} {B : α → Option (α ⊕ β)} {n : Nat} {a : α} {b : β} (h : B a = some (.inr b)) : itr B (n + 1) a = some b := by
  rw [itr, h]
/-- a loop that counts from a up to n -/
theorem itr_for {α β : Type} {B : α → Option (α ⊕ β)} (I : Nat → α → Prop) (R : β → Prop) (a n : Nat)
    (hstep : ∀ k s, a ≤ k → k < n → I k s → OK (B s) (fun o => (∃ s', o = .inl s' ∧ I (k + 1) s') ∨ ∃ r, o = .inr r ∧ R r))
    (hend : ∀ s, I n s → OK (B s) (fun o => ∃ r, o = .inr r ∧ R r)) {fuel : Nat} (hf : n - a < fuel) (han : a ≤ n) {s : α} (h0 : I a s) : OK (itr B fuel s) R := by
  have key : ∀ d k s, a ≤ k → k + d = n → ∀ fuel, d < fuel → I k s → OK (itr B fuel s) R := by
    intro d
    induction d with
    | zero =>
      intro k s hk e fuel hf hI
      have e : k = n := e
      subst e
      obtain ⟨o, ho, r, rfl, hr⟩ := hend s hI
      obtain ⟨f, rfl⟩ : ∃ f, fuel = f + 1 := ⟨fuel - 1, by omega⟩
      exact ⟨r, itr_inr ho, hr⟩
    | succ d ih =>
      intro k s hk e fuel hf hI
      obtain ⟨f, rfl⟩ : ∃ f, fuel = f + 1 := ⟨fuel - 1, by omega⟩
      obtain ⟨o, ho, h⟩ := hstep k s hk (by omega) hI
      rcases h with ⟨s', rfl, hI'⟩ | ⟨r, rfl, hr⟩
      · rw [itr_inl ho]
        exact ih (k + 1) s' (by omega) (by omega) f (by omega) hI'
      · exact ⟨r, itr_inr ho, hr⟩
  exact key (n - a) a s (Nat.le_refl _) (by omega) fuel hf h0
/-- two loops that go alike -/
theorem itr_two {α β γ δ : Type} {B : α → Option (α ⊕ β)} {C : γ → Option (γ ⊕ δ)} (I : Nat → α → γ → Prop) (R : β → δ → Prop) (a n : Nat)
    (hstep : ∀ k s t, a ≤ k → k < n → I k s t → OK2 (B s) (C t) (fun o p => (∃ s' t', o = .inl s' ∧ p = .inl t' ∧ I (k + 1) s' t') ∨ ∃ r r', o = .inr r ∧ p = .inr r' ∧ R r r'))
    (hend : ∀ s t, I n s t → OK2 (B s) (C t) (fun o p => ∃ r r', o = .inr r ∧ p = .inr r' ∧ R r r')) {fuel : Nat} (hf : n - a < fuel) (han : a ≤ n) {s : α} {t : γ} (h0 : I a s t) : OK2 (itr B fuel s) (itr C fuel t) R := by
  have key : ∀ d k s t, a ≤ k → k + d = n → ∀ fuel, d < fuel → I k s t → OK2 (itr B fuel s) (itr C fuel t) R := by
    intro d
    induction d with
    | zero =>
      intro k s t hk e fuel hf hI
      have e : k = n := e
      subst e
      obtain ⟨o, p, ho, hp, r, r', rfl, rfl, hr⟩ := hend s t hI
      obtain ⟨f, rfl⟩ : ∃ f, fuel = f + 1 := ⟨fuel - 1, by omega⟩
      exact ⟨r, r', itr_inr ho, itr_inr hp, hr⟩
    | succ d ih =>
      intro k s t hk e fuel hf hI
      obtain ⟨f, rfl⟩ : ∃ f, fuel = f + 1 := ⟨fuel - 1, by omega⟩
      obtain ⟨o, p, ho, hp, h⟩ := hstep k s t hk (by omega) hI
      rcases h with ⟨s', t', rfl, rfl, hI'⟩ | ⟨r, r', rfl, rfl, hr⟩
      · rw [itr_inl ho, itr_inl hp]
        exact ih (k + 1) s' t' (by omega) (by omega) f (by omega) hI'
      · exact ⟨r, r', itr_inr ho, itr_inr hp, hr⟩
  exact key (n - a) a s t (Nat.le_refl _) (by omega) fuel hf h0
/-! small numbers as Int32 -/
theorem nl_0 : (0 : Int32) = nI 0 := rfl
theorem nl_1 : (1 : Int32) = nI 1 := rfl
theorem nl_2 : (2 : Int32) = nI 2 := rfl
theorem nl_3 : (3 : Int32) = nI 3 := rfl
theorem nl_4 : (4 : Int32) = nI 4 := rfl
theorem nl_5 : (5 : Int32) = nI 5 := rfl
theorem nl_6 : (6 : Int32) = nI 6 := rfl
theorem nl_7 : (7 : Int32) = nI 7 := rfl
theorem nl_8 : (8 : Int32) = nI 8 := rfl
theorem nl_9 : (9 : Int32) = nI 9 := rfl
theorem nl_10 : (10 : Int32) = nI 10 := rfl
theorem nl_12 : (12 : Int32) = nI 12 := rfl
theorem nl_15 : (15 : Int32) = nI 15 := rfl
theorem nl_16 : (16 : Int32) = nI 16 := rfl
theorem nl_20 : (20 : Int32) = nI 20 := rfl
theorem nl_25 : (25 : Int32) = nI 25 := rfl
theorem nl_26 : (26 : Int32) = nI 26 := rfl
theorem nl_27 : (27 : Int32) = nI 27 := rfl
theorem nl_28 : (28 : Int32) = nI 28 := rfl
theorem nl_30 : (30 : Int32) = nI 30 := rfl
theorem nl_31 : (31 : Int32) = nI 31 := rfl
theorem nl_32 : (32 : Int32) = nI 32 := rfl
theorem nl_40 : (40 : Int32) = nI 40 := rfl
theorem nl_48 : (48 : Int32) = nI 48 := rfl
theorem nl_60 : (60 : Int32) = nI 60 := rfl
theorem nl_64 : (64 : Int32) = nI 64 := rfl
theorem nl_80 : (80 : Int32) = nI 80 := rfl
theorem nl_92 : (92 : Int32) = nI 92 := rfl
theorem nl_99 : (99 : Int32) = nI 99 := rfl
theorem nl_100 : (100 : Int32) = nI 100 := rfl
theorem nl_117 : (117 : Int32) = nI 117 := rfl
theorem nl_119 : (119 : Int32) = nI 119 := rfl
theorem nl_160 : (160 : Int32) = nI 160 := rfl
theorem nl_172 : (172 : Int32) = nI 172 := rfl
theorem nl_179 : (179 : Int32) = nI 179 := rfl
theorem nl_182 : (182 : Int32) = nI 182 := rfl
theorem nl_183 : (183 : Int32) = nI 183 := rfl
theorem nl_191 : (191 : Int32) = nI 191 := rfl
theorem nl_248 : (248 : Int32) = nI 248 := rfl
theorem nl_251 : (251 : Int32) = nI 251 := rfl
theorem nl_255 : (255 : Int32) = nI 255 := rfl
theorem nl_256 : (256 : Int32) = nI 256 := rfl
theorem nl_300 : (300 : Int32) = nI 300 := rfl
theorem nl_302 : (302 : Int32) = nI 302 := rfl
theorem nl_303 : (303 : Int32) = nI 303 := rfl
theorem nl_384 : (384 : Int32) = nI 384 := rfl
theorem nl_640 : (640 : Int32) = nI 640 := rfl
theorem nl_999 : (999 : Int32) = nI 999 := rfl
theorem nl_1600 : (1600 : Int32) = nI 1600 := rfl
theorem nl_1700 : (1700 : Int32) = nI 1700 := rfl
theorem nl_3200 : (3200 : Int32) = nI 3200 := rfl
theorem nl_6060 : (6060 : Int32) = nI 6060 := rfl
theorem nl_65536 : (65536 : Int32) = nI 65536 := rfl
theorem nl_999999 : (999999 : Int32) = nI 999999 := rfl
theorem xin_nI {n N : Nat} (h : n < N) (hN : N < 2147483648) : xin (nI n) N = true := by
  unfold xin
  rw [nI_clamp (by omega)]
  simp [nI_pos' (n := n) (by omega), h]
theorem xin_no {n N : Nat} (h : ¬ n < N) (hn : n < 2147483648) : xin (nI n) N = false := by
  unfold xin
  rw [nI_clamp (by omega)]
  simp [h]
/-- a truth as a number -/
def b32 (b : Bool) : Int32 := if b = true then nI 1 else nI 0
theorem b32_0 (b : Bool) : (b32 b = nI 0) ↔ b = false := by cases b <;> decide
theorem b32_1 (b : Bool) : (b32 b = nI 1) ↔ b = true := by cases b <;> decide
theorem b32_and (b : Bool) : b32 b &&& nI 1 = b32 b := by cases b <;> decide
theorem b32_t : nI 1 = b32 true := rfl
theorem b32_f : nI 0 = b32 false := rfl
theorem nI_div {a d : Nat} (ha : a < 2147483648) (h0 : 0 < d) (hd : d < 2147483648) : nI a / nI d = nI (a / d) := pk_div ha h0 hd
theorem nI_rem {a d : Nat} (ha : a < 2147483648) (h0 : 0 < d) (hd : d < 2147483648) : nI a - nI a / nI d * nI d = nI (a % d) := pk_rem ha h0 hd
theorem nI_m1 {a : Nat} (h : 1 ≤ a) : nI a - nI 1 = nI (a - 1) := pk_sub h
theorem i32_add {a b : Int32} (h1 : -2147483648 ≤ a.toInt + b.toInt) (h2 : a.toInt + b.toInt < 2147483648) : (a + b).toInt = a.toInt + b.toInt := by
  rw [Int32.toInt_add]
  exact Int.bmod_eq_of_le (by omega) (by omega)
theorem i32_sub {a b : Int32} (h1 : -2147483648 ≤ a.toInt - b.toInt) (h2 : a.toInt - b.toInt < 2147483648) : (a - b).toInt = a.toInt - b.toInt := by
  rw [Int32.toInt_sub]
  exact Int.bmod_eq_of_le (by omega) (by omega)
theorem i32_le {a b : Int32} : a ≤ b ↔ a.toInt ≤ b.toInt := Int32.le_iff_toInt_le
theorem i32_lt {a b : Int32} : a < b ↔ a.toInt < b.toInt := Int32.lt_iff_toInt_lt
theorem i32_eq {a b : Int32} : a = b ↔ a.toInt = b.toInt := Int32.toInt_inj.symm
/-! the twin's state: reads behind writes -/
theorem tI_sI {τ : TS} {k j : Nat} {v : Int32} : tI (sI τ k v) j = if j = k then v else tI τ j := rfl
theorem tI_sL {τ : TS} {k j : Nat} {v : Int64} : tI (sL τ k v) j = tI τ j := rfl
theorem tI_sA {τ : TS} {k i j : Nat} {v : Int32} : tI (sA τ k i v) j = tI τ j := rfl
theorem tI_sM {τ : TS} {k i j : Nat} {v : Int64} : tI (sM τ k i v) j = tI τ j := rfl
theorem tL_sI {τ : TS} {k j : Nat} {v : Int32} : tL (sI τ k v) j = tL τ j := rfl
theorem tL_sL {τ : TS} {k j : Nat} {v : Int64} : tL (sL τ k v) j = if j = k then v else tL τ j := rfl
theorem tL_sA {τ : TS} {k i j : Nat} {v : Int32} : tL (sA τ k i v) j = tL τ j := rfl
theorem tL_sM {τ : TS} {k i j : Nat} {v : Int64} : tL (sM τ k i v) j = tL τ j := rfl
theorem tA_sI {τ : TS} {k j z : Nat} {v : Int32} : tA (sI τ k v) j z = tA τ j z := rfl
theorem tA_sL {τ : TS} {k j z : Nat} {v : Int64} : tA (sL τ k v) j z = tA τ j z := rfl
theorem tA_sA {τ : TS} {k i j z : Nat} {v : Int32} : tA (sA τ k i v) j z = if j = k ∧ z = i then v else tA τ j z := by
  unfold tA sA
  by_cases h : j = k
  · subst h
    simp only [if_true, true_and]
    unfold upd
    rfl
  · simp [h]
theorem tA_sM {τ : TS} {k i j z : Nat} {v : Int64} : tA (sM τ k i v) j z = tA τ j z := rfl
theorem tM_sI {τ : TS} {k j z : Nat} {v : Int32} : tM (sI τ k v) j z = tM τ j z := rfl
theorem tM_sL {τ : TS} {k j z : Nat} {v : Int64} : tM (sL τ k v) j z = tM τ j z := rfl
theorem tM_sA {τ : TS} {k i j z : Nat} {v : Int32} : tM (sA τ k i v) j z = tM τ j z := rfl
theorem tM_sM {τ : TS} {k i j z : Nat} {v : Int64} : tM (sM τ k i v) j z = if j = k ∧ z = i then v else tM τ j z := by
  unfold tM sM
  by_cases h : j = k
  · subst h
    simp only [if_true, true_and]
    unfold vp_updL
    rfl
  · simp [h]
/-! the component's contents: reads behind writes -/
section CU
variable {c : CC} {k a i j b z : Nat}
theorem cI_uI {v : Int32} : cI (uI c k a v) j b = if j = k ∧ b = a then v else cI c j b := rfl
theorem cI_uL {v : Int64} : cI (uL c k a v) j b = cI c j b := rfl
theorem cI_uR {v : Option Nat} : cI (uR c k a v) j b = cI c j b := rfl
theorem cI_uA {v : Int32} : cI (uA c a i v) j b = cI c j b := rfl
theorem cI_uM {v : Int64} : cI (uM c a i v) j b = cI c j b := rfl
theorem cI_uP {v : Option Nat} : cI (uP c a i v) j b = cI c j b := rfl
theorem cL_uI {v : Int32} : cL (uI c k a v) j b = cL c j b := rfl
theorem cL_uL {v : Int64} : cL (uL c k a v) j b = if j = k ∧ b = a then v else cL c j b := rfl
theorem cL_uR {v : Option Nat} : cL (uR c k a v) j b = cL c j b := rfl
theorem cL_uA {v : Int32} : cL (uA c a i v) j b = cL c j b := rfl
theorem cL_uM {v : Int64} : cL (uM c a i v) j b = cL c j b := rfl
theorem cL_uP {v : Option Nat} : cL (uP c a i v) j b = cL c j b := rfl
theorem cR_uI {v : Int32} : cR (uI c k a v) j b = cR c j b := rfl
theorem cR_uL {v : Int64} : cR (uL c k a v) j b = cR c j b := rfl
theorem cR_uR {v : Option Nat} : cR (uR c k a v) j b = if j = k ∧ b = a then v else cR c j b := rfl
theorem cR_uA {v : Int32} : cR (uA c a i v) j b = cR c j b := rfl
theorem cR_uM {v : Int64} : cR (uM c a i v) j b = cR c j b := rfl
theorem cR_uP {v : Option Nat} : cR (uP c a i v) j b = cR c j b := rfl
theorem cA_uI {v : Int32} : cA (uI c k a v) b z = cA c b z := rfl
theorem cA_uL {v : Int64} : cA (uL c k a v) b z = cA c b z := rfl
theorem cA_uR {v : Option Nat} : cA (uR c k a v) b z = cA c b z := rfl
theorem cA_uA {v : Int32} : cA (uA c a i v) b z = if b = a ∧ z = i then v else cA c b z := rfl
theorem cA_uM {v : Int64} : cA (uM c a i v) b z = cA c b z := rfl
theorem cA_uP {v : Option Nat} : cA (uP c a i v) b z = cA c b z := rfl
theorem cM_uI {v : Int32} : cM (uI c k a v) b z = cM c b z := rfl
theorem cM_uL {v : Int64} : cM (uL c k a v) b z = cM c b z := rfl
theorem cM_uR {v : Option Nat} : cM (uR c k a v) b z = cM c b z := rfl
theorem cM_uA {v : Int32} : cM (uA c a i v) b z = cM c b z := rfl
theorem cM_uM {v : Int64} : cM (uM c a i v) b z = if b = a ∧ z = i then v else cM c b z := rfl
theorem cM_uP {v : Option Nat} : cM (uP c a i v) b z = cM c b z := rfl
theorem cP_uI {v : Int32} : cP (uI c k a v) b z = cP c b z := rfl
theorem cP_uL {v : Int64} : cP (uL c k a v) b z = cP c b z := rfl
theorem cP_uR {v : Option Nat} : cP (uR c k a v) b z = cP c b z := rfl
theorem cP_uA {v : Int32} : cP (uA c a i v) b z = cP c b z := rfl
theorem cP_uM {v : Int64} : cP (uM c a i v) b z = cP c b z := rfl
theorem cP_uP {v : Option Nat} : cP (uP c a i v) b z = if b = a ∧ z = i then v else cP c b z := rfl
end CU
/-- contents alike at an address -/
def Eq1 (c c' : CC) (a : Nat) : Prop := (∀ k, cI c' k a = cI c k a) ∧ (∀ k, cL c' k a = cL c k a) ∧ (∀ k, cR c' k a = cR c k a) ∧ (∀ i, cA c' a i = cA c a i) ∧ (∀ i, cM c' a i = cM c a i) ∧ ∀ i, cP c' a i = cP c a i
theorem Eq1.refl (c : CC) (a : Nat) : Eq1 c c a := ⟨fun _ => rfl, fun _ => rfl, fun _ => rfl, fun _ => rfl, fun _ => rfl, fun _ => rfl⟩
theorem Eq1.trans {c c' c'' : CC} {a : Nat} (h : Eq1 c c' a) (h' : Eq1 c' c'' a) : Eq1 c c'' a := ⟨fun k => (h'.1 k).trans (h.1 k), fun k => (h'.2.1 k).trans (h.2.1 k), fun k => (h'.2.2.1 k).trans (h.2.2.1 k), fun k => (h'.2.2.2.1 k).trans (h.2.2.2.1 k), fun k => (h'.2.2.2.2.1 k).trans (h.2.2.2.2.1 k), fun k => (h'.2.2.2.2.2 k).trans (h.2.2.2.2.2 k)⟩
theorem Eq1.symm {c c' : CC} {a : Nat} (h : Eq1 c c' a) : Eq1 c' c a := ⟨fun k => (h.1 k).symm, fun k => (h.2.1 k).symm, fun k => (h.2.2.1 k).symm, fun k => (h.2.2.2.1 k).symm, fun k => (h.2.2.2.2.1 k).symm, fun k => (h.2.2.2.2.2 k).symm⟩
section EQ
variable {c c' : CC} {k a i b : Nat}
theorem Eq1.uI {v : Int32} (h : Eq1 c c' b) (hb : b ≠ a) : Eq1 c (uI c' k a v) b := ⟨fun j => by rw [cI_uI, if_neg (fun q => hb q.2)]; exact h.1 j, h.2.1, h.2.2.1, h.2.2.2.1, h.2.2.2.2.1, h.2.2.2.2.2⟩
theorem Eq1.uL {v : Int64} (h : Eq1 c c' b) (hb : b ≠ a) : Eq1 c (uL c' k a v) b := ⟨h.1, fun j => by rw [cL_uL, if_neg (fun q => hb q.2)]; exact h.2.1 j, h.2.2.1, h.2.2.2.1, h.2.2.2.2.1, h.2.2.2.2.2⟩
theorem Eq1.uR {v : Option Nat} (h : Eq1 c c' b) (hb : b ≠ a) : Eq1 c (uR c' k a v) b := ⟨h.1, h.2.1, fun j => by rw [cR_uR, if_neg (fun q => hb q.2)]; exact h.2.2.1 j, h.2.2.2.1, h.2.2.2.2.1, h.2.2.2.2.2⟩
theorem Eq1.uA {v : Int32} (h : Eq1 c c' b) (hb : b ≠ a) : Eq1 c (uA c' a i v) b := ⟨h.1, h.2.1, h.2.2.1, fun j => by rw [cA_uA, if_neg (fun q => hb q.1)]; exact h.2.2.2.1 j, h.2.2.2.2.1, h.2.2.2.2.2⟩
theorem Eq1.uM {v : Int64} (h : Eq1 c c' b) (hb : b ≠ a) : Eq1 c (uM c' a i v) b := ⟨h.1, h.2.1, h.2.2.1, h.2.2.2.1, fun j => by rw [cM_uM, if_neg (fun q => hb q.1)]; exact h.2.2.2.2.1 j, h.2.2.2.2.2⟩
theorem Eq1.uP {v : Option Nat} (h : Eq1 c c' b) (hb : b ≠ a) : Eq1 c (uP c' a i v) b := ⟨h.1, h.2.1, h.2.2.1, h.2.2.2.1, h.2.2.2.2.1, fun j => by rw [cP_uP, if_neg (fun q => hb q.1)]; exact h.2.2.2.2.2 j⟩
end EQ
