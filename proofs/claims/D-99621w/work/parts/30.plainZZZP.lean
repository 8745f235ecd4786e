/-! PLAIN LAW: a valley as it is read: both hold the same -/
set_option maxRecDepth 100000
/-- what is told: numbers (0 columns, 1 rows, 2 reach, 3 statements, 4 lords, 5 spate, from 10 runs, from 100 soil, from 200 willows, from 300 lords' numbers), names, codes of eats, of bend -/
abbrev VQ : Type := (Nat → Nat) × (Nat → List Nat) × Option (List Nat) × Option (List Nat)
def qn (v : VQ) (k : Nat) : Nat := v.1 k
def qm (v : VQ) (k : Nat) : List Nat := v.2.1 k
def qe (v : VQ) : Option (List Nat) := v.2.2.1
def qb (v : VQ) : Option (List Nat) := v.2.2.2
def setq (v : VQ) (k x : Nat) : VQ := (updN v.1 k x, v.2)
def VQB (v : VQ) : Prop := (3 ≤ qn v 0 ∧ qn v 0 ≤ 10) ∧ (2 ≤ qn v 1 ∧ qn v 1 ≤ 8) ∧ (1 ≤ qn v 2 ∧ qn v 2 ≤ 7) ∧ qn v 3 ≤ 80 ∧ qn v 4 ≤ 5 ∧ qn v 5 ≤ 100 ∧ (∀ i, i < 10 → qn v (10 + i) < qn v 1) ∧ (∀ i, i < 80 → qn v (100 + i) ≤ 9) ∧ (∀ i, i < 80 → qn v (200 + i) ≤ 9) ∧
  (∀ k, k < qn v 4 → qn v (300 + 5 * k) ≤ qn v (300 + 5 * k + 1) ∧ qn v (300 + 5 * k + 1) < qn v 0 ∧ qn v (300 + 5 * k + 2) ≤ 99 ∧ qn v (300 + 5 * k + 3) ≤ 99 ∧ qn v (300 + 5 * k + 4) ≤ 999) ∧ (∀ k, k < qn v 4 → nmL (qm v k)) ∧ (∀ cs, qe v = some cs → okX 0 cs) ∧ (∀ cs, qb v = some cs → okX 1 cs)
/-- a valley's cells -/
def VLay (g : CG) (V : Nat) : Prop := gT g V = 2 ∧ (gR g 205 V = some (V + 1) ∧ gT g (V + 1) = 100 ∧ gN g (V + 1) = 10) ∧ (gR g 206 V = some (V + 2) ∧ gT g (V + 2) = 105 ∧ gN g (V + 2) = 10 ∧ ∀ i, i < 10 → gA g (V + 2) i = V + 3 + i ∧ gT g (V + 3 + i) = 100 ∧ gN g (V + 3 + i) = 8) ∧
  (gR g 207 V = some (V + 13) ∧ gT g (V + 13) = 105 ∧ gN g (V + 13) = 10 ∧ ∀ i, i < 10 → gA g (V + 13) i = V + 14 + i ∧ gT g (V + 14 + i) = 100 ∧ gN g (V + 14 + i) = 8) ∧ gR g 208 V = some (V + 24)
/-- a lord -/
def LDh (g : CG) (c : CC) (lo hi o : Nat) (v : VQ) (k : Nat) : Prop := (lo ≤ o ∧ o < hi) ∧ gT g o = 7 ∧ (cI c 701 o = nI (qn v (300 + 5 * k)) ∧ cI c 702 o = nI (qn v (300 + 5 * k + 1)) ∧ cI c 703 o = nI (qn v (300 + 5 * k + 2)) ∧ cI c 704 o = nI (qn v (300 + 5 * k + 3)) ∧ cI c 705 o = nI (qn v (300 + 5 * k + 4))) ∧ ∃ s b, gR g 700 o = some s ∧ (lo ≤ s ∧ s < hi) ∧ (lo ≤ b ∧ b < hi) ∧ gK g s = 19 ∧ cI c 1901 s = nI 0 ∧ gR g 1900 s = some b ∧ gK g b = 103 ∧ gN g b = (qm v k).length ∧ ∀ i, i < (qm v k).length → cA c b i = nI ((qm v k).getD i 0)
/-- sums and tests told -/
def EVh (g : CG) (c : CC) (X V hi arr : Nat) (oc : Option (List Nat)) : Prop := match oc with
  | none => cR c 209 V = none
  | some cs => ∃ e elo ehi, cR c 209 V = some e ∧ VAL 0 X 26 elo ehi g c e cs ∧ V + 26 ≤ elo ∧ ehi ≤ hi ∧ (arr < elo ∨ ehi ≤ arr)
def BVh (g : CG) (c : CC) (X V hi arr : Nat) (oc : Option (List Nat)) : Prop := match oc with
  | none => cR c 210 V = none
  | some cs => ∃ e elo ehi, cR c 210 V = some e ∧ TVAL 1 X 53 elo ehi g c e cs ∧ V + 26 ≤ elo ∧ ehi ≤ hi ∧ (arr < elo ∨ ehi ≤ arr)
/-- the component's valley -/
def CVh (g : CG) (c : CC) (X V hi : Nat) (v : VQ) : Prop := VLay g V ∧ V + 26 ≤ hi ∧ (cI c 200 V = nI (qn v 3) ∧ cI c 201 V = nI (qn v 0) ∧ cI c 202 V = nI (qn v 1) ∧ cI c 203 V = nI (qn v 2) ∧ cI c 204 V = nI (qn v 5)) ∧ (∀ i, i < 10 → cA c (V + 1) i = nI (qn v (10 + i))) ∧ (∀ i r, i < 10 → r < 8 → cA c (V + 3 + i) r = nI (qn v (100 + (8 * i + r)))) ∧ (∀ i r, i < 10 → r < 8 → cA c (V + 14 + i) r = nI (qn v (200 + (8 * i + r)))) ∧
  ∃ arr ad, ALs g c (V + 24) arr (qn v 4) ad ∧ (arr = V + 25 ∨ V + 26 ≤ arr) ∧ arr < hi ∧ (∀ k, k < qn v 4 → LDh g c (V + 26) hi (ad k) v k) ∧ EVh g c X V hi arr (qe v) ∧ BVh g c X V hi arr (qb v)
/-- codes of the twin -/
def CodT (τ : TS) (w cd : Nat) (oc : Option (List Nat)) : Prop := match oc with
  | none => tA τ 55 w = -1
  | some cs => ∃ b, tA τ 55 w = nI b ∧ tA τ 56 w = nI (b + cs.length) ∧ b + cs.length ≤ cd ∧ ∀ i, i < cs.length → tA τ 57 (b + i) = nI (cs.getD i 0)
/-- the twin's valley -/
def TVh (τ : TS) (cd : Nat) (v : VQ) : Prop := (tA τ 45 0 = nI (qn v 0) ∧ tA τ 45 1 = nI (qn v 1) ∧ tA τ 45 2 = nI (qn v 2)) ∧ tI τ 59 = tI τ 59 ∧ tI τ 46 = nI (qn v 4) ∧ tI τ 53 = nI (qn v 5) ∧ (∀ i, i < 10 → tA τ 51 i = nI (qn v (10 + i))) ∧ (∀ i, i < 80 → tA τ 50 i = nI (qn v (100 + i))) ∧ (∀ i, i < 80 → tA τ 52 i = nI (qn v (200 + i))) ∧ (∀ k, k < qn v 4 → ∀ j, j < 5 → tA τ 49 (5 * k + j) = nI (qn v (300 + 5 * k + j))) ∧ (∀ k, k < qn v 4 → tM τ 48 k = lN (valN (qm v k) (qm v k).length)) ∧ tI τ 58 = nI cd ∧ cd ≤ 1600 ∧ CodT τ 0 cd (qe v) ∧ CodT τ 1 cd (qb v)
section ZZP1
variable {g g' : CG} {c c' : CC} {τ τ' : TS} {X V hi cd : Nat} {v : VQ}
theorem VLay.of (h : VLay g V) (hg : AgG V (V + 26) g g') : VLay g' V := by
  obtain ⟨h1, ⟨h2, h3, h4⟩, ⟨h5, h6, h7, h8⟩, ⟨h9, h10, h11, h12⟩, h13⟩ := h
  have q := fun j (hj : j < 26) => hg (V + j) (by omega) (by omega)
  have q0 := hg V (by omega) (by omega)
  refine ⟨by rw [q0.1]; exact h1, ⟨by rw [q0.2.2.1]; exact h2, by rw [(q 1 (by omega)).1]; exact h3, by rw [(q 1 (by omega)).2.1]; exact h4⟩, ⟨by rw [q0.2.2.1]; exact h5, by rw [(q 2 (by omega)).1]; exact h6, by rw [(q 2 (by omega)).2.1]; exact h7, fun i hi => ⟨by rw [(q 2 (by omega)).2.2.2]; exact (h8 i hi).1, ?_, ?_⟩⟩, ⟨by rw [q0.2.2.1]; exact h9, by rw [(q 13 (by omega)).1]; exact h10, by rw [(q 13 (by omega)).2.1]; exact h11, fun i hi => ⟨by rw [(q 13 (by omega)).2.2.2]; exact (h12 i hi).1, ?_, ?_⟩⟩, by rw [q0.2.2.1]; exact h13⟩
  · rw [(hg (V + 3 + i) (by omega) (by omega)).1]; exact (h8 i hi).2.1
  · rw [(hg (V + 3 + i) (by omega) (by omega)).2.1]; exact (h8 i hi).2.2
  · rw [(hg (V + 14 + i) (by omega) (by omega)).1]; exact (h12 i hi).2.1
  · rw [(hg (V + 14 + i) (by omega) (by omega)).2.1]; exact (h12 i hi).2.2
theorem LDh.of {lo o k : Nat} (h : LDh g c lo hi o v k) (hg : ∀ a, lo ≤ a → a < hi → gK g a ≠ 109 → gT g' a = gT g a ∧ gN g' a = gN g a ∧ (∀ k, gR g' k a = gR g k a)) (hc : ∀ a, lo ≤ a → a < hi → gK g a ≠ 109 → Eq1 c c' a) : LDh g' c' lo hi o v k := by
  obtain ⟨h1, h2, ⟨h3, h4, h5, h6, h7⟩, s, b, h8, h9, h10, h11, h12, h13, h14, h15, h16⟩ := h
  have ko : gK g o ≠ 109 := by show gT g o % 1000 ≠ 109; rw [h2]; decide
  have ks : gK g s ≠ 109 := by rw [h11]; decide
  have kb : gK g b ≠ 109 := by rw [h14]; decide
  have go := hg o h1.1 h1.2 ko
  have gs := hg s h9.1 h9.2 ks
  have gb := hg b h10.1 h10.2 kb
  have co := hc o h1.1 h1.2 ko
  have cs := hc s h9.1 h9.2 ks
  have cb := hc b h10.1 h10.2 kb
  exact ⟨h1, by rw [go.1]; exact h2, ⟨by rw [co.1]; exact h3, by rw [co.1]; exact h4, by rw [co.1]; exact h5, by rw [co.1]; exact h6, by rw [co.1]; exact h7⟩, s, b, by rw [go.2.2]; exact h8, h9, h10, by show gT g' s % 1000 = 19; rw [gs.1]; exact h11, by rw [cs.1]; exact h12, by rw [gs.2.2]; exact h13, by show gT g' b % 1000 = 103; rw [gb.1]; exact h14, by rw [gb.2.1]; exact h15, fun i hi => by rw [cb.2.2.2.1]; exact h16 i hi⟩
theorem LDh.up {lo o k hi2 : Nat} (h : LDh g c lo hi o v k) (hh : hi ≤ hi2) : LDh g c lo hi2 o v k := by
  obtain ⟨h1, h2, h3, s, b, h8, h9, h10, h11⟩ := h
  exact ⟨by omega, h2, h3, s, b, h8, by omega, by omega, h11⟩
theorem CVh.of (h : CVh g c X V hi v) (hg : AgG V hi g g') (hc : AgC V hi c c') {hi2 : Nat} (hh : hi ≤ hi2) : CVh g' c' X V hi2 v := by
  obtain ⟨h1, h2, ⟨i0, i1, i2, i3, i4⟩, h3, h4, h5, arr, ad, k1, k2, k3, k4, k5, k6⟩ := h
  have c0 := hc V (by omega) (by omega)
  refine ⟨h1.of (fun a a1 a2 => hg a a1 (by omega)), by omega, ⟨by rw [c0.1]; exact i0, by rw [c0.1]; exact i1, by rw [c0.1]; exact i2, by rw [c0.1]; exact i3, by rw [c0.1]; exact i4⟩, fun i hi => by rw [(hc (V + 1) (by omega) (by omega)).2.2.2.1]; exact h3 i hi, fun i r hi hr => by rw [(hc (V + 3 + i) (by omega) (by omega)).2.2.2.1]; exact h4 i r hi hr, fun i r hi hr => by rw [(hc (V + 14 + i) (by omega) (by omega)).2.2.2.1]; exact h5 i r hi hr, arr, ad, k1.of (hg _ (by omega) (by omega)).1 ⟨(hg arr (by omega) (by omega)).1, (hg arr (by omega) (by omega)).2.1⟩ (fun i hi => by have := (k4 i hi).1; exact (hg _ (by omega) (by omega)).1) (hc _ (by omega) (by omega)) (hc arr (by omega) (by omega)), k2, by omega, fun k hk => ((k4 k hk).of (fun a a1 a2 _ => ⟨(hg a (by omega) a2).1, (hg a (by omega) a2).2.1, (hg a (by omega) a2).2.2.1⟩) (fun a a1 a2 _ => hc a (by omega) a2)).up hh, ?_, ?_⟩
  · unfold EVh at k5 ⊢
    cases hq : qe v with
    | none => rw [hq] at k5; show cR c' 209 V = none; rw [c0.2.2.1]; exact k5
    | some cs =>
      rw [hq] at k5
      obtain ⟨e, elo, ehi, m1, m2, m3, m4, m5⟩ := k5
      exact ⟨e, elo, ehi, by rw [c0.2.2.1]; exact m1, m2.of (fun a a1 a2 => hg a (by omega) (by omega)) (fun a a1 a2 => hc a (by omega) (by omega)), m3, by omega, m5⟩
  · unfold BVh at k6 ⊢
    cases hq : qb v with
    | none => rw [hq] at k6; show cR c' 210 V = none; rw [c0.2.2.1]; exact k6
    | some cs =>
      rw [hq] at k6
      obtain ⟨e, elo, ehi, m1, m2, m3, m4, m5⟩ := k6
      exact ⟨e, elo, ehi, by rw [c0.2.2.1]; exact m1, m2.of (fun a a1 a2 => hg a (by omega) (by omega)) (fun a a1 a2 => hc a (by omega) (by omega)), m3, by omega, m5⟩
/-- reading moves the reader alone -/
theorem CVh.pf {τc τc' : CS} (h : CVh τc.1 τc.2 X V hi v) (p : PF X τc τc') (hX : X + 30 ≤ V) (hh : hi ≤ gz τc.1) : CVh τc'.1 τc'.2 X V (gz τc'.1) v := by
  obtain ⟨a1, a2⟩ := p.ag (lo := V) (hi := hi) hX hh
  exact h.of a1 a2 (by have := p.1; omega)
theorem CodT.of {w : Nat} {oc : Option (List Nat)} (hw : w < 2) (h : CodT τ w cd oc) (e5 : ∀ i, tA τ' 55 i = tA τ 55 i) (e6 : ∀ i, tA τ' 56 i = tA τ 56 i) (e7 : ∀ i, tA τ' 57 i = tA τ 57 i) : CodT τ' w cd oc := by
  unfold CodT at h ⊢
  cases oc with
  | none => show tA τ' 55 w = -1; rw [e5]; exact h
  | some cs =>
    obtain ⟨b, h1, h2, h3, h4⟩ := h
    exact ⟨b, by rw [e5]; exact h1, by rw [e6]; exact h2, h3, fun i hi => by rw [e7]; exact h4 i hi⟩
theorem TVh.y (h : TVh τ cd v) (t : TY inQ aQ τ τ') : TVh τ' cd v := by
  obtain ⟨⟨h1, h2, h3⟩, h4, h5, h6, h7, h8, h9, h10, h11, h12, h13, h14, h15⟩ := h
  have eI : ∀ k, inQ k = false → noisy k = false → tI τ' k = tI τ k := t.1.1
  have eA : ∀ k i, aQ k = false → tA τ' k i = tA τ k i := t.1.2.2.1
  exact ⟨⟨by rw [eA 45 _ rfl]; exact h1, by rw [eA 45 _ rfl]; exact h2, by rw [eA 45 _ rfl]; exact h3⟩, rfl, by rw [eI 46 rfl rfl]; exact h5, by rw [eI 53 rfl rfl]; exact h6, fun i hi => by rw [eA 51 _ rfl]; exact h7 i hi, fun i hi => by rw [eA 50 _ rfl]; exact h8 i hi, fun i hi => by rw [eA 52 _ rfl]; exact h9 i hi, fun k hk j hj => by rw [eA 49 _ rfl]; exact h10 k hk j hj, fun k hk => by rw [t.1.2.2.2 48 _ (by omega)]; exact h11 k hk, by rw [eI 58 rfl rfl]; exact h12, h13, h14.of (by omega) (fun i => eA 55 i rfl) (fun i => eA 56 i rfl) (fun i => eA 57 i rfl), h15.of (by omega) (fun i => eA 55 i rfl) (fun i => eA 56 i rfl) (fun i => eA 57 i rfl)⟩
end ZZP1
