/-! PLAIN LAW: the component reads atoms -/
set_option maxRecDepth 100000
section ZZF1
variable {kx X n h o a e : Nat} {B : Nat → Nat} {τ τ' : CS} {cs : List Nat}
theorem C_mustP {x : Nat} (hP : PI τ X n B a o) (hx : x < 256) : OK (f_x_X2_must (X + 28) (nI x) τ) (fun r => PF X τ r.2 ∧ r.2.1 = τ.1 ∧ (cur B n (sk B n a) = x → r.1 = .inl () ∧ PI r.2 X n B (sk B n a + 1) o) ∧ (cur B n (sk B n a) ≠ x → r.1 = .inr (X + 29) ∧ FLT r.2.2 X 1 (sk B n a))) := by
  have hr := hP.1.2.2.1
  rw [show τ = (τ.1, τ.2) from rfl, C_must hP.1.1 hr hx]
  by_cases hc : cur B n (sk B n a) = x
  · rw [if_pos hc]
    exact OK_some ⟨PF.at2, rfl, fun _ => ⟨rfl, hP.pf PF.at2 (hP.1.at2 (by have := cur_lt hc hx; omega))⟩, fun z => absurd hc z⟩
  · rw [if_neg hc]
    exact OK_some ⟨((PR.refl (X := X)).u302.u29.u29).pf, rfl, fun z => absurd z hc, fun _ => ⟨rfl, FLT.mk⟩⟩
theorem C_dec (hP : PI τ X n B a (o + 1)) : PI (τ.1, uI τ.2 304 (X + 28) (cI τ.2 304 (X + 28) - 1)) X n B a o ∧ PF X τ (τ.1, uI τ.2 304 (X + 28) (cI τ.2 304 (X + 28) - 1)) := by
  obtain ⟨h1, h2, h3, h4, h5, h6⟩ := hP.1
  have pf : PF X τ (τ.1, uI τ.2 304 (X + 28) (cI τ.2 304 (X + 28) - 1)) := ((PR.refl (X := X)).u304).pf
  refine ⟨hP.pf pf ⟨h1, h2, ⟨h3.1.of ((Eq1.refl τ.2 _).uI (by omega)), h3.2.1, ?_, ?_, h3.2.2.2.2⟩, fun i hi hb => by show cA (uI τ.2 304 (X + 28) _) (X + 27) i = _; rw [cA_uI]; exact h4 i hi hb, ?_, by omega⟩, pf⟩
  · show cI (uI τ.2 304 (X + 28) _) 301 (X + 28) = _
    rw [cI_uI, if_neg (by omega)]; exact h3.2.2.1
  · show cI (uI τ.2 304 (X + 28) _) 302 (X + 28) = _
    rw [cI_uI, if_neg (by omega)]; exact h3.2.2.2.1
  · show cI (uI τ.2 304 (X + 28) _) 304 (X + 28) = _
    rw [cI_uI, if_pos ⟨rfl, rfl⟩, h5, nl_1, nI_m1 (by omega)]; rfl
theorem VAL.pf {lo hi : Nat} (v : VAL kx X h lo hi τ.1 τ.2 e cs) (p : PF X τ τ') (hl : X + 30 ≤ lo) (hh : hi ≤ gz τ.1) : VAL kx X h lo hi τ'.1 τ'.2 e cs := by
  obtain ⟨a1, a2⟩ := p.ag (lo := lo) (hi := hi) hl hh
  exact v.of a1 a2
theorem VAL.st {lo hi z : Nat} (v : VAL kx X h lo hi τ.1 τ.2 e cs) (p : STz z τ τ') (hh : hi ≤ z) : VAL kx X h lo hi τ'.1 τ'.2 e cs := v.of (fun a _ a2 => p.2.1 a (by omega) (by omega)) (fun a _ a2 => p.2.2 a (by omega))
/-- one cell more -/
theorem C_new {t : Nat} (h1 : 1 ≤ grc τ.1) (h2 : kN t ≤ grs τ.1) : ∃ τ', aNew t τ = some (gz τ.1, τ') ∧ STz (gz τ.1) τ τ' ∧ gz τ'.1 = gz τ.1 + 1 ∧ gT τ'.1 (gz τ.1) = t ∧ grc τ'.1 = grc τ.1 - 1 ∧ grs τ'.1 = grs τ.1 - kN t := by
  refine ⟨_, aNew_ok h1 h2, ⟨?_, fun a _ ha => ⟨?_, ?_, fun k => ?_, fun i => rfl⟩, fun a ha => zC_e (by omega)⟩, nG_z, ?_, nG_c, nG_s⟩
  · show gz τ.1 ≤ gz (nG _ _ _ _)
    rw [nG_z]; omega
  · show gT (nG _ _ _ _) a = _
    rw [nG_T, if_neg (by omega)]
  · show gN (nG _ _ _ _) a = _
    rw [nG_N, if_neg (by omega)]
  · show gR (nG _ _ _ _) k a = _
    rw [nG_R, if_neg (by omega)]
  · show gT (nG _ _ _ _) (gz τ.1) = t
    rw [nG_T, if_pos rfl]
/-- a number -/
theorem VAL_fixed {z v hi : Nat} {g : CG} {c : CC} (hT : gT g z = 10) (hL : cL c 1000 z = (nI v).toInt64) (hv : v ≤ 9999) (hh : z < hi) : VAL kx X 1 z hi g c z [1000 + v] := by
  have hk : ∀ g' : CG, gT g' z = 10 → gK g' z = 10 := fun g' q => by show gT g' z % 1000 = 10; rw [q]
  refine ⟨by rw [hk g hT]; rfl, Nat.le_refl _, hh, fun _ _ => (nI v).toInt64, fun env lk p => ?_, fun env lk _ _ => ?_, fun k hk => ?_, fun g' c' hg hc _ m arr _ lk _ _ d hd => ?_⟩
  · show (run1 env lk (1000 + v) p).bind (run env lk []) = _
    unfold run1
    rw [if_pos (by omega), show 1000 + v - 1000 = v by omega]; rfl
  · unfold bdd
    rw [Int32.toInt_toInt64, nI_toInt (by omega)]; omega
  · simp only [List.mem_singleton] at hk
    omega
  · obtain ⟨d', rfl⟩ : ∃ d', d = d' + 1 := ⟨d - 1, by omega⟩
    have hT' : gT g' z = 10 := by rw [(hg z (Nat.le_refl _) hh).1]; exact hT
    show (if gK g' z = 10 then f_c_X11_at g' z m c' else _) = _
    rw [if_pos (hk g' hT')]
    unfold f_c_X11_at
    rw [if_pos hT', (hc z (Nat.le_refl _) hh).2.1, hL]
/-- what is asked -/
theorem VAL_asked {z v hi : Nat} {g : CG} {c : CC} (hT : gT g z = 11) (hL : cI c 1100 z = nI v) (hv : v < 18) (ha : alw kx v = true) (hh : z < hi) : VAL kx X 1 z hi g c z [40 + v] := by
  have hk : ∀ g' : CG, gT g' z = 11 → gK g' z = 11 := fun g' q => by show gT g' z % 1000 = 11; rw [q]
  refine ⟨by rw [hk g hT]; rfl, Nat.le_refl _, hh, fun env _ => env v, fun env lk p => ?_, fun env lk h1 _ => h1 v, fun k hk => ?_, fun g' c' hg hc _ m arr hm lk _ _ d hd => ?_⟩
  · show (run1 env lk (40 + v) p).bind (run env lk []) = _
    unfold run1
    rw [if_neg (by omega), if_neg (by omega), if_pos (by omega), show 40 + v - 40 = v by omega]; rfl
  · simp only [List.mem_singleton] at hk
    subst hk
    exact Or.inr (Or.inl ⟨by omega, by omega, by rw [show 40 + v - 40 = v by omega]; exact ha⟩)
  · obtain ⟨d', rfl⟩ : ∃ d', d = d' + 1 := ⟨d - 1, by omega⟩
    have hT' : gT g' z = 11 := by rw [(hg z (Nat.le_refl _) hh).1]; exact hT
    obtain ⟨m1, m2, m3, m4⟩ := hm
    show (if gK g' z = 10 then _ else if gK g' z = 11 then f_c_X12_at g' z m c' else _) = _
    rw [if_neg (by rw [hk g' hT']; decide), if_pos (hk g' hT')]
    unfold f_c_X12_at
    rw [if_pos m1, m2, Option.bind_some, if_pos hT', if_pos m3, (hc z (Nat.le_refl _) hh).1, hL, m4, if_pos (xin_nI hv (by omega)), nI_clamp (show v < 2 ^ 31 by omega), C_held, xbd_some]
/-- the lesser or the greater -/
theorem VAL_pair {z e1 e2 l1 h1 l2 h2 lo hi t : Nat} {g : CG} {c : CC} {cs1 cs2 : List Nat} (hT : gT g z = 9) (hR1 : gR g 901 z = some e1) (hR2 : gR g 902 z = some e2) (hI : cI c 900 z = nI t) (ht : t < 2) (v1 : VAL kx X h l1 h1 g c e1 cs1) (v2 : VAL kx X h l2 h2 g c e2 cs2) (b0 : lo ≤ z ∧ z < hi) (b1 : lo ≤ l1 ∧ h1 ≤ hi) (b2 : lo ≤ l2 ∧ h2 ≤ hi) : VAL kx X (h + 1) lo hi g c z (cs1 ++ cs2 ++ [5 + t]) := by
  have hk : ∀ g' : CG, gT g' z = 9 → gK g' z = 9 := fun g' q => by show gT g' z % 1000 = 9; rw [q]
  obtain ⟨p1, p2, p3, G1, p4, p5, p6, p7⟩ := v1
  obtain ⟨q1, q2, q3, G2, q4, q5, q6, q7⟩ := v2
  refine ⟨by rw [hk g hT]; rfl, b0.1, b0.2, fun env lk => join (5 + t) (G1 env lk) (G2 env lk), fun env lk p => ?_, fun env lk u1 u2 => ?_, fun k hk => ?_, fun g' c' hg hc hX m arr hm lk hl hlb d hd => ?_⟩
  · rw [run_append, run_append, p4, Option.bind_some, q4, Option.bind_some, run_op (by omega)]
  · show bdd (join (5 + t) (G1 env lk) (G2 env lk))
    have x1 := p5 env lk u1 u2
    have x2 := q5 env lk u1 u2
    rcases (show t = 0 ∨ t = 1 by omega) with rfl | rfl
    · rw [show 5 + 0 = 5 from rfl, join_5]
      split
      · exact x1
      · exact x2
    · rw [show 5 + 1 = 6 from rfl, join_6]
      split
      · exact x1
      · exact x2
  · simp only [List.mem_append, List.mem_singleton] at hk
    rcases hk with (hk | hk) | hk
    · exact p6 k hk
    · exact q6 k hk
    · exact Or.inl (by omega)
  · obtain ⟨d', rfl⟩ : ∃ d', d = d' + 1 := ⟨d - 1, by omega⟩
    have hT' : gT g' z = 9 := by rw [(hg z b0.1 b0.2).1]; exact hT
    have a1 := p7 g' c' (fun a a1 a2 => hg a (by omega) (by omega)) (fun a a1 a2 => hc a (by omega) (by omega)) hX m arr hm lk hl hlb d' (by omega)
    have a2 := q7 g' c' (fun a a1 a2 => hg a (by omega) (by omega)) (fun a a1 a2 => hc a (by omega) (by omega)) hX m arr hm lk hl hlb d' (by omega)
    show (if gK g' z = 10 then _ else if gK g' z = 11 then _ else if gK g' z = 9 then f_c_X10_at g' (d_at d') z m c' else _) = _
    rw [if_neg (by rw [hk g' hT']; decide), if_neg (by rw [hk g' hT']; decide), if_pos (hk g' hT')]
    unfold f_c_X10_at Jc_X10_at_35
    rw [if_pos hT', (hg z b0.1 b0.2).2.2.1, hR1, Option.bind_some, a1, xbd_some, (hg z b0.1 b0.2).2.2.1, hR2, Option.bind_some, a2, xbd_some, (hc z b0.1 b0.2).1, hI]
    show _ = some (join (5 + t) (G1 (fun k => clip (cM c' arr k)) lk) (G2 (fun k => clip (cM c' arr k)) lk), c')
    generalize G1 (fun k => clip (cM c' arr k)) lk = u
    generalize G2 (fun k => clip (cM c' arr k)) lk = w
    have el : (lg_cmp u w ≤ 0) ↔ ¬ w < u := by rw [lg_cmp_le, Int64.le_iff_toInt_le, Int64.lt_iff_toInt_lt]; omega
    rcases (show t = 0 ∨ t = 1 by omega) with rfl | rfl
    · rw [show 5 + 0 = 5 from rfl, join_5]
      by_cases hh : w < u
      · rw [if_neg (fun q => (el.mp q) hh), if_neg (show ¬ nI 0 = 1 by decide), if_neg (by rw [Int64.lt_iff_toInt_lt] at hh ⊢; omega)]
      · rw [if_pos (el.mpr hh), if_pos (show nI 0 = 0 from rfl)]
        by_cases h3 : u < w
        · rw [if_pos h3]
        · rw [if_neg h3]
          have : u = w := by
            rw [← Int64.toInt_inj]
            rw [Int64.lt_iff_toInt_lt] at hh h3
            omega
          rw [this]
    · rw [show 5 + 1 = 6 from rfl, join_6]
      by_cases hh : w < u
      · rw [if_neg (fun q => (el.mp q) hh), if_pos (show nI 1 = 1 from rfl), if_pos hh]
      · rw [if_pos (el.mpr hh), if_neg (show ¬ nI 1 = 0 by decide), if_neg hh]
/-- what is told of a number -/
theorem VAL_look {z e1 l1 h1 lo hi j : Nat} {g : CG} {c : CC} {cs1 : List Nat} (hT : gT g z = 12) (hR1 : gR g 1201 z = some e1) (hR2 : gR g 1202 z = some X) (hI : cI c 1200 z = nI j) (hj : j < 2) (v1 : VAL 2 X h l1 h1 g c e1 cs1) (b0 : lo ≤ z ∧ z < hi) (b1 : lo ≤ l1 ∧ h1 ≤ hi) : VAL 2 X (h + 1) lo hi g c z (cs1 ++ [60 + j]) := by
  have hk : ∀ g' : CG, gT g' z = 12 → gK g' z = 12 := fun g' q => by show gT g' z % 1000 = 12; rw [q]
  obtain ⟨p1, p2, p3, G1, p4, p5, p6, p7⟩ := v1
  refine ⟨by rw [hk g hT]; rfl, b0.1, b0.2, fun env lk => lk j (G1 env lk), fun env lk p => ?_, fun env lk u1 u2 => u2 j hj _, fun k hk => ?_, fun g' c' hg hc hX m arr hm lk hl hlb d hd => ?_⟩
  · rw [run_append, p4, Option.bind_some]
    show (run1 env lk (60 + j) (G1 env lk :: p)).bind (run env lk []) = _
    unfold run1
    rw [if_neg (by omega), if_pos (by omega), show 60 + j - 60 = j by omega]; rfl
  · simp only [List.mem_append, List.mem_singleton] at hk
    rcases hk with hk | hk
    · exact p6 k hk
    · exact Or.inr (Or.inr (Or.inl ⟨rfl, by omega, by omega⟩))
  · obtain ⟨d', rfl⟩ : ∃ d', d = d' + 1 := ⟨d - 1, by omega⟩
    have hT' : gT g' z = 12 := by rw [(hg z b0.1 b0.2).1]; exact hT
    have a1 := p7 g' c' (fun a a1 a2 => hg a (by omega) (by omega)) (fun a a1 a2 => hc a (by omega) (by omega)) hX m arr hm lk hl hlb d' (by omega)
    show (if gK g' z = 10 then _ else if gK g' z = 11 then _ else if gK g' z = 9 then _ else if gK g' z = 8 then _ else if gK g' z = 12 then f_c_X13_at g' (d_at d') z m c' else none) = _
    rw [if_neg (by rw [hk g' hT']; decide), if_neg (by rw [hk g' hT']; decide), if_neg (by rw [hk g' hT']; decide), if_neg (by rw [hk g' hT']; decide), if_pos (hk g' hT')]
    unfold f_c_X13_at
    obtain ⟨u, u1, u2⟩ := hl rfl j hj (G1 (fun k => clip (cM c' arr k)) lk)
    rw [if_pos hT', (hg z b0.1 b0.2).2.2.1, hR2, Option.bind_some, (hg z b0.1 b0.2).2.2.1, hR1, Option.bind_some, a1, xbd_some, if_pos (hX rfl), (hc z b0.1 b0.2).1, hI, u1, xbd_some, C_held, xbd_some]
    show _ = some (lk j (G1 (fun k => clip (cM c' arr k)) lk), c')
    rw [u2]
end ZZF1
