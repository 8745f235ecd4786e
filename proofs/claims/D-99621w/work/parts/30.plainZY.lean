/-! PLAIN LAW: words: the twin's -/
set_option maxRecDepth 100000
/-- where letters end -/
def weN (B : Nat → Nat) : Nat → Nat → Nat
  | 0, a => a
  | d + 1, a => if ltB (B a) = true then weN B d (a + 1) else a
def we (B : Nat → Nat) (n a : Nat) : Nat := weN B (n - a) a
/-- the word at a place -/
def wd (B : Nat → Nat) (n a : Nat) : List Nat := (List.range (we B n a - a)).map (fun i => B (a + i))
/-- whether a word may begin here -/
def okW (B : Nat → Nat) (n q : Nat) : Bool := ltB (cur B n q) && !alB B q
theorem we_n {B : Nat → Nat} {n : Nat} : we B n n = n := by unfold we; rw [Nat.sub_self]; rfl
theorem we_b {B : Nat → Nat} {n a : Nat} (h : a < n) (hb : ltB (B a) = true) : we B n a = we B n (a + 1) := by
  unfold we
  obtain ⟨d, hd⟩ : ∃ d, n - a = d + 1 := ⟨n - a - 1, by omega⟩
  rw [hd, show n - (a + 1) = d by omega]
  show (if ltB (B a) = true then weN B d (a + 1) else a) = _
  rw [if_pos hb]
theorem we_s {B : Nat → Nat} {n a : Nat} (h : a < n) (hb : ltB (B a) = false) : we B n a = a := by
  unfold we
  obtain ⟨d, hd⟩ : ∃ d, n - a = d + 1 := ⟨n - a - 1, by omega⟩
  rw [hd]
  show (if ltB (B a) = true then weN B d (a + 1) else a) = _
  rw [if_neg (by rw [hb]; decide)]
theorem we_le {B : Nat → Nat} {n : Nat} : ∀ d a, a + d = n → a ≤ we B n a ∧ we B n a ≤ n ∧ (we B n a = n ∨ ltB (B (we B n a)) = false) ∧ ∀ i, a ≤ i → i < we B n a → ltB (B i) = true
  | 0, a, h => by
    have e : a = n := h
    subst e
    rw [we_n]
    exact ⟨Nat.le_refl _, Nat.le_refl _, Or.inl rfl, fun i h1 h2 => by omega⟩
  | d + 1, a, h => by
    by_cases hb : ltB (B a) = true
    · have ih := we_le (B := B) (n := n) d (a + 1) (by omega)
      rw [we_b (by omega) hb]
      refine ⟨by omega, ih.2.1, ih.2.2.1, fun i h1 h2 => ?_⟩
      by_cases e : i = a
      · rw [e]; exact hb
      · exact ih.2.2.2 i (by omega) h2
    · have hb : ltB (B a) = false := by simpa using hb
      rw [we_s (by omega) hb]
      exact ⟨Nat.le_refl _, by omega, Or.inr hb, fun i h1 h2 => by omega⟩
theorem we_g {B : Nat → Nat} {n a : Nat} (h : a ≤ n) : a ≤ we B n a ∧ we B n a ≤ n ∧ (we B n a = n ∨ ltB (B (we B n a)) = false) ∧ ∀ i, a ≤ i → i < we B n a → ltB (B i) = true := we_le (n - a) a (by omega)
theorem wd_len {B : Nat → Nat} {n a : Nat} : (wd B n a).length = we B n a - a := by unfold wd; simp
theorem wd_get {B : Nat → Nat} {n a i : Nat} (h : i < we B n a - a) : (wd B n a).getD i 0 = B (a + i) := by
  unfold wd
  rw [List.getD_eq_getElem?_getD]
  simp [h]
theorem wd_eq {B : Nat → Nat} {n a : Nat} {L : List Nat} : wd B n a = L ↔ we B n a - a = L.length ∧ ∀ i, i < L.length → B (a + i) = L.getD i 0 := by
  constructor
  · intro h
    subst h
    exact ⟨wd_len.symm, fun i hi => by rw [wd_len] at hi; exact (wd_get hi).symm⟩
  · rintro ⟨h1, h2⟩
    apply List.ext_getElem
    · rw [wd_len, h1]
    · intro i h3 h4
      have e1 := wd_get (B := B) (n := n) (a := a) (i := i) (by rw [wd_len] at h3; exact h3)
      have e2 := h2 i h4
      rw [List.getD_eq_getElem?_getD, List.getElem?_eq_getElem h3] at e1
      rw [List.getD_eq_getElem?_getD, List.getElem?_eq_getElem h4] at e2
      exact e1.trans e2
/-- a word of the twin -/
def TWd (τ : TS) (x : Nat) (L : List Nat) : Prop := t_ak x = 2 ∧ t_len x = L.length ∧ L.length < 10 ∧ (∀ i, i < L.length → tA τ x i = nI (L.getD i 0) ∧ L.getD i 0 < 256)
/-- what ended last, against where it stands -/
def EN (τ : TS) (B : Nat → Nat) (a : Nat) : Prop := (tI τ 4).toInt ≤ a ∧ ((tI τ 4).toInt = a ↔ alB B a = true)
/-- reading goes well, stands at a -/
def TPs (τ : TS) (n : Nat) (B : Nat → Nat) (a : Nat) : Prop := RdT τ n B a ∧ tI τ 5 = 0 ∧ EN τ B a
theorem blB_al {B : Nat → Nat} {p : Nat} (h : blB (B p) = true) : alB B (p + 1) = false := by
  unfold alB blB ltB dgB at *
  simp only [Bool.or_eq_true, beq_iff_eq] at h
  rw [show p + 1 - 1 = p by omega]
  rcases h with e | e <;> rw [e] <;> simp
theorem EN.sk {τ : TS} {B : Nat → Nat} {n : Nat} : ∀ d a, a + d = n → EN τ B a → EN τ B (sk B n a)
  | 0, a, h, he => by
    have e : a = n := h
    subst e
    rw [sk_n]; exact he
  | d + 1, a, h, he => by
    by_cases hb : blB (B a) = true
    · rw [sk_b (by omega) hb]
      refine EN.sk d (a + 1) (by omega) ⟨by have := he.1; omega, ?_⟩
      have := he.1
      rw [blB_al hb]
      exact ⟨fun z => by omega, fun z => by cases z⟩
    · rw [sk_s (by omega) (by simpa using hb)]; exact he
section ZYs
variable {τ τ' q : TS} {n m : Nat} {B : Nat → Nat} {L : List Nat}
theorem TPs.look {a : Nat} (h : TPs τ n B a) : f_t_look τ = some (chI (cur B n (sk B n a)), sI τ 2 (nI (sk B n a))) ∧ TPs (sI τ 2 (nI (sk B n a))) n B (sk B n a) := by
  have ha := h.1.2.2.2.2
  have hs := sk_g (B := B) ha
  refine ⟨T_look h.1, h.1.to hs.2.1, by rw [tI_sI, if_neg (by omega)]; exact h.2.1, ?_⟩
  have := EN.sk (n := n) (n - a) a (by omega) h.2.2
  unfold EN at this ⊢
  rw [tI_sI, if_neg (by omega)]; exact this
theorem TPs.cur_le {a p : Nat} (h : TPs τ n B a) : cur B n p ≤ 256 := by
  unfold cur
  have := h.1.2.1
  split
  · have := (h.1.1 p (by omega)).2; omega
  · omega
/-- letters are run through -/
theorem T_run {x a : Nat} (h : RdT τ n B a) (hx : True) : ∀ d b, b + d = n → ∀ f, d < f → itr (fun s_ : Int32 × TS => Bt_isHere_35 x s_.1 s_.2) f (nI b, τ) = some (nI (we B n b), τ) := by
  have hn := h.2.1
  intro d
  induction d with
  | zero =>
    intro b hb f hf
    obtain ⟨f', rfl⟩ : ∃ f', f = f' + 1 := ⟨f - 1, by omega⟩
    have e : b = n := hb
    rw [itr_inr (b := (nI b, τ)), e, we_n]
    show Bt_isHere_35 x (nI b) τ = _
    unfold Bt_isHere_35
    rw [h.2.2.1, if_pos (by rw [nI_leI (by omega) (by omega)]; omega)]
  | succ d ih =>
    intro b hb f hf
    obtain ⟨f', rfl⟩ : ∃ f', f = f' + 1 := ⟨f - 1, by omega⟩
    have hbb := (h.1 b (by omega)).2
    have ech : nI (B b) = chI (B b) := by unfold chI; rw [if_neg (by omega)]
    have body : Bt_isHere_35 x (nI b) τ = if ltB (B b) = true then some (.inl (nI (b + 1), τ)) else some (.inr (nI b, τ)) := by
      unfold Bt_isHere_35
      rw [h.2.2.1, if_neg (by rw [nI_leI (by omega) (by omega)]; omega), if_pos (xin_nI (show b < 1600 by omega) (by omega)), nI_clamp (show b < 2 ^ 31 by omega), (h.1 b (by omega)).1, ech, T_isLetter (by omega), xbd_some, nl_1, nI_add]
      cases ltB (B b)
      · rw [if_pos (show b32 false = 0 by decide), if_neg (by decide)]
      · rw [if_neg (show ¬ b32 true = 0 by decide), if_pos rfl]
    by_cases hbl : ltB (B b) = true
    · rw [if_pos hbl] at body
      rw [itr_inl (a' := (nI (b + 1), τ)) body, ih (b + 1) (by omega) f' (by omega), we_b (by omega) hbl]
    · rw [if_neg hbl] at body
      rw [itr_inr (b := (nI b, τ)) body, we_s (by omega) (by simpa using hbl)]
theorem T_cmp {x a : Nat} (h : RdT τ n B a) (hw : TWd τ x L) (hl : a + L.length ≤ n) : OK (itr (fun s_ : Int32 × TS => Bt_isHere_76 x s_.1 s_.2) 4096 (0, τ)) (fun o => (o = .inl τ ∧ ∀ i, i < L.length → B (a + i) = L.getD i 0) ∨ (o = .inr (0, τ) ∧ ¬ ∀ i, i < L.length → B (a + i) = L.getD i 0)) := by
  have hn := h.2.1
  obtain ⟨w1, w2, w3, w4⟩ := hw
  refine itr_for (fun i s => s = (nI i, τ) ∧ ∀ j, j < i → B (a + j) = L.getD j 0) _ 0 L.length ?_ ?_ (by omega) (by omega) ⟨rfl, fun j hj => absurd hj (Nat.not_lt_zero j)⟩
  · rintro i s - hi ⟨rfl, hj⟩
    have h1 := (h.1 (a + i) (by omega)).2
    have h2 := (w4 i hi).2
    show OK (Bt_isHere_76 x (nI i) τ) _
    unfold Bt_isHere_76
    rw [if_pos w1, w2, show Int32.ofNat L.length = nI L.length from rfl, if_neg (by rw [nI_leI (by omega) (by omega)]; omega), h.2.2.2.1, nI_add, if_pos (xin_nI (show a + i < 1600 by omega) (by omega)), if_pos w1, if_pos (xin_nI hi (by omega)), nI_clamp (show a + i < 2 ^ 31 by omega), nI_clamp (show i < 2 ^ 31 by omega), (h.1 (a + i) (by omega)).1, (w4 i hi).1, nl_1, nI_add]
    by_cases e : B (a + i) = L.getD i 0
    · rw [if_pos (by rw [e])]
      refine OK_some (Or.inl ⟨_, rfl, rfl, fun j hj2 => ?_⟩)
      by_cases ej : j = i
      · rw [ej]; exact e
      · exact hj j (by omega)
    · rw [if_neg (by rw [nI_eq (by omega) (by omega)]; exact e)]
      exact OK_some (Or.inr ⟨_, rfl, Or.inr ⟨rfl, fun z => e (z i hi)⟩⟩)
  · rintro s ⟨rfl, hj⟩
    show OK (Bt_isHere_76 x (nI L.length) τ) _
    unfold Bt_isHere_76
    rw [if_pos w1, w2, show Int32.ofNat L.length = nI L.length from rfl, if_pos (by rw [nI_leI (by omega) (by omega)]; omega)]
    exact OK_some ⟨_, rfl, Or.inl ⟨rfl, hj⟩⟩
theorem T_isHere {x a : Nat} (h : TPs τ n B a) (hw : TWd τ x L) : f_t_isHere x τ = some (b32 (okW B n (sk B n a) && decide (wd B n (sk B n a) = L)), sI τ 2 (nI (sk B n a))) := by
  obtain ⟨e1, h'⟩ := h.look
  have hn := h.1.2.1
  have ha := h.1.2.2.2.2
  generalize sk B n a = p at *
  have hp := h'.1.2.2.2.2
  have hw' : TWd (sI τ 2 (nI p)) x L := ⟨hw.1, hw.2.1, hw.2.2.1, hw.2.2.2⟩
  have hc := h'.cur_le (p := p)
  unfold f_t_isHere okW
  rw [if_pos h.2.1, e1, xbd_some, T_isLetter hc, xbd_some]
  cases hlt : ltB (cur B n p) with
  | false => rw [if_pos (show b32 false = 0 by decide), Bool.false_and, Bool.false_and]; rfl
  | true =>
    rw [if_neg (show ¬ b32 true = 0 by decide), Bool.true_and]
    have e4 : (tI (sI τ 2 (nI p)) 2 = tI (sI τ 2 (nI p)) 4) ↔ alB B p = true := by
      rw [h'.1.2.2.2.1, ← h'.2.2.2, i32_eq, nI_toInt (by omega)]
      exact ⟨fun z => z.symm, fun z => z.symm⟩
    by_cases hal : alB B p = true
    · rw [if_pos (e4.mpr hal), hal]; rfl
    · rw [if_neg (fun z => hal (e4.mp z)), show alB B p = false by simpa using hal, Bool.not_false, Bool.true_and, h'.1.2.2.2.1, T_run h'.1 trivial (n - p) p (by omega) 4096 (by omega), Option.bind_some]
      obtain ⟨g1, g2, -⟩ := we_g (B := B) hp
      unfold Jt_isHere_61
      show (if t_ak x = 2 then (if nI (we B n p) - tI (sI τ 2 (nI p)) 2 = Int32.ofNat (t_len x) then _ else _) else _) = _
      rw [if_pos hw.1, h'.1.2.2.2.1, pk_sub g1, hw.2.1, show Int32.ofNat L.length = nI L.length from rfl]
      have hL := hw.2.2.1
      by_cases el : we B n p - p = L.length
      · rw [if_pos (by rw [el])]
        obtain ⟨o, eo, ho⟩ := T_cmp (a := p) h'.1 hw' (by omega)
        show ((itr (fun s_ : Int32 × TS => Bt_isHere_76 x s_.1 s_.2) 4096 (0, sI τ 2 (nI p))).bind fun b5 => (Sum.elim (fun e6 => some (1, e6)) (fun r_ => some r_)) b5) = _
        rw [eo, Option.bind_some]
        rcases ho with ⟨rfl, hz⟩ | ⟨rfl, hz⟩
        · rw [decide_eq_true (wd_eq.mpr ⟨el, hz⟩)]; rfl
        · rw [decide_eq_false (fun z => hz (wd_eq.mp z).2)]; rfl
      · rw [if_neg (by rw [nI_eq (by omega) (by omega)]; exact el), decide_eq_false (fun z => el (wd_eq.mp z).1)]; rfl
/-- behind a word -/
theorem TPs.word {a : Nat} (h : TPs τ n B a) (ha : a < n) (hl : ltB (B a) = true) : TPs (sI (sI τ 2 (nI (we B n a))) 4 (nI (we B n a))) n B (we B n a) := by
  have hn := h.1.2.1
  obtain ⟨g1, g2, g3, g4⟩ := we_g (B := B) (n := n) (a := a) (by omega)
  have hgt : a < we B n a := by
    rw [we_b ha hl]
    exact (we_g (B := B) (n := n) (a := a + 1) (by omega)).1
  have t := h.1.to g2
  refine ⟨⟨t.1, t.2.1, by rw [tI_sI, if_neg (by omega)]; exact t.2.2.1, by rw [tI_sI, if_neg (by omega)]; exact t.2.2.2.1, g2⟩, by rw [tI_sI, if_neg (by omega), tI_sI, if_neg (by omega)]; exact h.2.1, ?_⟩
  unfold EN
  rw [tI_sI, if_pos rfl, nI_toInt (by omega)]
  refine ⟨Int.le_refl _, fun _ => ?_, fun _ => rfl⟩
  unfold alB
  rw [decide_eq_true (show 0 < we B n a by omega), g4 (we B n a - 1) (by omega) (by omega)]; rfl
theorem T_takes {x a : Nat} (h : TPs τ n B a) (hw : TWd τ x L) : f_t_takes x τ = if (okW B n (sk B n a) && decide (wd B n (sk B n a) = L)) = true then some (1, sI (sI (sI τ 2 (nI (sk B n a))) 2 (nI (we B n (sk B n a)))) 4 (nI (we B n (sk B n a)))) else some (0, sI τ 2 (nI (sk B n a))) := by
  unfold f_t_takes
  rw [T_isHere h hw, xbd_some]
  obtain ⟨-, h'⟩ := h.look
  have hp := h'.1.2.2.2.2
  have hn := h.1.2.1
  obtain ⟨g1, -⟩ := we_g (B := B) hp
  cases hz : (okW B n (sk B n a) && decide (wd B n (sk B n a) = L)) with
  | false => rw [if_pos (show b32 false = 0 by decide), if_neg (by decide)]
  | true =>
    rw [if_neg (show ¬ b32 true = 0 by decide), if_pos rfl, if_pos hw.1, h'.1.2.2.2.1, hw.2.1]
    simp only [Bool.and_eq_true, decide_eq_true_eq] at hz
    have el := (wd_eq.mp hz.2).1
    have ew : nI (sk B n a) + Int32.ofNat L.length = nI (we B n (sk B n a)) := by
      show nI (sk B n a) + nI L.length = _
      rw [nI_add]; congr 1; omega
    rw [ew, show tI (sI (sI τ 2 (nI (sk B n a))) 2 (nI (we B n (sk B n a)))) 2 = nI (we B n (sk B n a)) by rw [tI_sI, if_pos rfl]]
theorem okW_l {p : Nat} (h : okW B n p = true) : p < n ∧ ltB (B p) = true := by
  unfold okW at h
  simp only [Bool.and_eq_true] at h
  have h := h.1
  unfold cur at h
  by_cases e : p < n
  · rw [if_pos e] at h; exact ⟨e, h⟩
  · rw [if_neg e] at h; exact absurd h (by decide)
theorem T_takesSign {a x : Nat} (h : TPs τ n B a) (hx : x < 256) : f_t_takesSign (nI x) τ = if cur B n (sk B n a) = x then some (1, sI (sI τ 2 (nI (sk B n a))) 2 (nI (sk B n a + 1))) else some (0, sI τ 2 (nI (sk B n a))) := by
  obtain ⟨e1, h'⟩ := h.look
  have hc := h'.cur_le (p := sk B n a)
  unfold f_t_takesSign
  rw [if_pos h.2.1, e1, xbd_some, h'.1.2.2.2.1, nl_1, nI_add]
  by_cases e : cur B n (sk B n a) = x
  · rw [if_pos ((ch_ne hc hx).mpr e), if_pos e]
  · rw [if_neg (fun z => e ((ch_ne hc hx).mp z)), if_neg e]
/-- behind a sign -/
theorem TPs.sign {a : Nat} (h : TPs τ n B a) (ha : a < n) (hl : ltB (B a) = false) (hd : dgB (B a) = false) : TPs (sI τ 2 (nI (a + 1))) n B (a + 1) := by
  refine ⟨h.1.to (by omega), by rw [tI_sI, if_neg (by omega)]; exact h.2.1, ?_⟩
  have := h.2.2.1
  unfold EN
  rw [tI_sI, if_neg (by omega)]
  have e : alB B (a + 1) = false := by unfold alB; rw [show a + 1 - 1 = a by omega, hl, hd]; simp
  rw [e]
  exact ⟨by omega, fun z => by omega, fun z => by cases z⟩
end ZYs
