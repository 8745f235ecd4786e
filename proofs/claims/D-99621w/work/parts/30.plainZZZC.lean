/-! PLAIN LAW: chains are made, grow; what stays -/
set_option maxRecDepth 100000
/-- nothing below z has changed -/
def STz (z : Nat) (τ τ' : CS) : Prop := gz τ.1 ≤ gz τ'.1 ∧ AgG 0 z τ.1 τ'.1 ∧ ∀ a, a < z → Eq1 τ.2 τ'.2 a
def setz (g : CG) (z : Nat) : CG := (g.1, g.2.1, g.2.2.1, g.2.2.2.1, z, g.2.2.2.2.2)
section ZZC1
variable {τ τ' τ'' τ0 τ1 τ2 : CS} {X n a o z : Nat} {B : Nat → Nat}
theorem STz.refl : STz z τ τ := ⟨Nat.le_refl _, AgG.refl _ _ _, fun a _ => Eq1.refl _ a⟩
theorem STz.trans (h : STz z τ τ') (h' : STz z τ' τ'') : STz z τ τ'' := ⟨Nat.le_trans h.1 h'.1, h.2.1.trans h'.2.1, fun a ha => (h.2.2 a ha).trans (h'.2.2 a ha)⟩
theorem STz.le {z' : Nat} (h : STz z τ τ') (hz : z' ≤ z) : STz z' τ τ' := ⟨h.1, fun a h0 h1 => h.2.1 a h0 (by omega), fun a ha => h.2.2 a (by omega)⟩
theorem PF.st (h : PF X τ0 τ1) (h' : STz z τ1 τ2) (hz : gz τ0.1 ≤ z) (hX : X + 30 ≤ gz τ0.1) : PF X τ0 τ2 := ⟨Nat.le_trans h.1 h'.1, fun a h0 h1 => by
  have q1 := h.2.1 a h0 h1
  have q2 := h'.2.1 a h0 (by omega)
  exact ⟨q2.1.trans q1.1, q2.2.1.trans q1.2.1, fun k => (q2.2.2.1 k).trans (q1.2.2.1 k), fun i => (q2.2.2.2 i).trans (q1.2.2.2 i)⟩, fun a a1 a2 a3 => (h.2.2.1 a a1 a2 a3).trans (h'.2.2 a (by omega)), fun k k1 k2 k3 => by rw [(h'.2.2 (X + 28) (by omega)).1]; exact h.2.2.2.1 k k1 k2 k3, fun k => by rw [(h'.2.2 (X + 28) (by omega)).2.2.1]; exact h.2.2.2.2 k⟩
theorem PI.st (h : PI τ1 X n B a o) (h' : STz z τ1 τ2) (hz : X + 1671 ≤ z) : PI τ2 X n B a o := by
  have hX := h.1.2.1
  have pf : PF X (setz τ1.1 (X + 1671), τ1.2) τ2 := ⟨by have := h'.1; show X + 1671 ≤ _; omega, fun b h0 h1 => h'.2.1 b h0 (by have h1 : b < X + 1671 := h1; omega), fun b b1 _ _ => h'.2.2 b (by have b1 : b < X + 1671 := b1; omega), fun k _ _ _ => (h'.2.2 (X + 28) (by omega)).1 k, fun k => (h'.2.2 (X + 28) (by omega)).2.2.1 k⟩
  obtain ⟨h1, h2, h3, h4, h5, h6⟩ := h.1
  have q28 := h'.2.2 (X + 28) (by omega)
  refine ⟨⟨RDG.pf (τ := (setz τ1.1 (X + 1671), τ1.2)) h1 (by show X + 30 ≤ X + 1671; omega) pf, by have := h'.1; omega, ⟨h3.1.of (h'.2.2 (X + 27) (by omega)), h3.2.1, by rw [q28.1]; exact h3.2.2.1, by rw [q28.1]; exact h3.2.2.2.1, h3.2.2.2.2⟩, fun i hi hb => by rw [(h'.2.2 (X + 27) (by omega)).2.2.2.1]; exact h4 i hi hb, by rw [q28.1]; exact h5, h6⟩, ?_⟩
  exact LIT.pf (τ := (setz τ1.1 (X + 1671), τ1.2)) h.2 (Nat.le_refl X) (by show X + 30 ≤ X + 1671; omega) pf
theorem ALs.of {g g' : CG} {c c' : CC} {l arr k : Nat} {ad : Nat → Nat} (h : ALs g c l arr k ad) (t1 : gT g' l = gT g l) (t2 : gT g' arr = gT g arr ∧ gN g' arr = gN g arr) (t3 : ∀ i, i < k → gT g' (ad i) = gT g (ad i)) (e1 : Eq1 c c' l) (e2 : Eq1 c c' arr) : ALs g' c' l arr k ad := by
  obtain ⟨h1, h2, h3, h4, h5, h6, h7, h8, h9⟩ := h
  refine ⟨by rw [t1]; exact h1, h2, by rw [e1.2.2.1]; exact h3, by rw [t2.1]; exact h4, by rw [t2.2]; exact h5, by rw [t2.2]; exact h6, by rw [t2.2]; exact h7, by rw [e1.1]; exact h8, fun i hi => ⟨by rw [e2.2.2.2.2.2]; exact (h9 i hi).1, ?_⟩⟩
  have := (h9 i hi).2
  show okO (gT g' (ad i) % 1000) = true
  rw [t3 i hi]; exact this
theorem SBs.of {g g' : CG} {c c' : CC} {s ba k : Nat} {sg : Nat → Nat} (h : SBs g c s ba k sg) (t1 : gT g' s = gT g s) (t2 : gT g' ba = gT g ba ∧ gN g' ba = gN g ba) (e1 : Eq1 c c' s) (e2 : Eq1 c c' ba) : SBs g' c' s ba k sg := by
  obtain ⟨h1, h2, h3, h4, h5, h6, h7, h8, h9, h10⟩ := h
  exact ⟨by rw [t1]; exact h1, h2, by rw [e1.2.2.1]; exact h3, by rw [t2.1]; exact h4, by rw [t2.2]; exact h5, by rw [t2.2]; exact h6, by rw [t2.2]; exact h7, by rw [e1.1]; exact h8, by rw [e1.1]; exact h9, fun i hi => ⟨by rw [e2.2.2.2.1]; exact (h10 i hi).1, (h10 i hi).2⟩⟩
/-- an empty list -/
theorem C_listNew (hc : 2 ≤ grc τ.1) (hs : 5 ≤ grs τ.1) : ∃ τ1 τ2, aNew 18 τ = some (gz τ.1, τ1) ∧ f_a_J2_init (gz τ.1) 2 τ1 = some τ2 ∧ ALs τ2.1 τ2.2 (gz τ.1) (gz τ.1 + 1) 0 (fun _ => 0) ∧ gz τ2.1 = gz τ.1 + 2 ∧ STz (gz τ.1) τ τ2 ∧ grc τ2.1 = grc τ.1 - 2 ∧ grs τ2.1 = grs τ.1 - 5 ∧ gN τ2.1 (gz τ.1 + 1) = 2 := by
  obtain ⟨g, c⟩ := τ
  dsimp only at *
  generalize hz : gz g = z at *
  have e1 := aNew_ok (t := 18) (τ := (g, c)) (by dsimp only; omega) (by dsimp only; show 3 ≤ _; omega)
  rw [show kN 18 = 3 from rfl] at e1
  dsimp only at e1
  rw [hz] at e1
  have t1 : gT (nG g 18 0 3) z = 18 := by rw [nG_T, hz, if_pos rfl]
  have z1 : gz (nG g 18 0 3) = z + 1 := by rw [nG_z, hz]
  have e2 := aArr_ok (t := 109) (n := 2) (τ := (nG g 18 0 3, uI (zC c z) 1800 z 0)) (by dsimp only; rw [nG_c]; omega) (by dsimp only; rw [nG_s]; omega) (by omega)
  dsimp only at e2
  rw [z1] at e2
  refine ⟨_, (nG (nG g 18 0 3) 109 2 2, uR (zC (uI (zC c z) 1800 z 0) (z + 1)) 1801 z (some (z + 1))), e1, ?_, ⟨?_, by omega, ?_, ?_, by omega, ?_, ?_, ?_, fun i hi => absurd hi (Nat.not_lt_zero i)⟩, by show gz (nG _ _ _ _) = _; rw [nG_z, z1], ⟨?_, fun a _ ha => ⟨?_, ?_, fun k => ?_, fun i => rfl⟩, fun a ha => ?_⟩, ?_, ?_, ?_⟩
  · unfold f_a_J2_init f_a_J1_init f_a_J0_init
    rw [Option.bind_some, if_pos t1, Option.bind_some, if_neg (by decide), show (2 : Int32) = nI 2 from rfl, e2, xbd_some]
    dsimp only
    rw [if_pos (by rw [nG_T, z1, if_neg (by omega)]; exact t1)]
  · show gT (nG _ _ _ _) z = 18
    rw [nG_T, z1, if_neg (by omega)]; exact t1
  · show cR (uR _ 1801 z _) 1801 z = _
    rw [cR_uR, if_pos ⟨rfl, rfl⟩]
  · show gT (nG _ _ _ _) (z + 1) = 109
    rw [nG_T, z1, if_pos rfl]
  · show 2 ≤ gN (nG _ _ _ _) (z + 1)
    rw [nG_N, z1, if_pos rfl]; omega
  · show gN (nG _ _ _ _) (z + 1) ≤ _
    rw [nG_N, z1, if_pos rfl]; omega
  · show cI (uR (zC (uI (zC c z) 1800 z 0) (z + 1)) 1801 z _) 1802 z = _
    rw [cI_uR, zC_I, if_neg (by omega), cI_uI, if_neg (by omega), zC_I, if_pos rfl]; rfl
  · show gz g ≤ gz (nG _ _ _ _)
    rw [nG_z, z1, hz]; omega
  · show gT (nG _ _ _ _) a = gT g a
    rw [nG_T, z1, if_neg (by omega), nG_T, hz, if_neg (by omega)]
  · show gN (nG _ _ _ _) a = gN g a
    rw [nG_N, z1, if_neg (by omega), nG_N, hz, if_neg (by omega)]
  · show gR (nG _ _ _ _) k a = gR g k a
    rw [nG_R, z1, if_neg (by omega), nG_R, hz, if_neg (by omega)]
  · exact ((((zC_e (by omega)).uI (by omega)).trans (zC_e (by omega))).uR (by omega))
  · show grc (nG _ _ _ _) = _
    rw [nG_c, nG_c]; omega
  · show grs (nG _ _ _ _) = _
    rw [nG_s, nG_s]; omega
  · show gN (nG _ _ _ _) (z + 1) = 2
    rw [nG_N, z1, if_pos rfl]
/-- an empty builder -/
theorem C_sbNew (hc : 2 ≤ grc τ.1) (hs : 20 ≤ grs τ.1) : ∃ τ1 τ2, aNew 20 τ = some (gz τ.1, τ1) ∧ f_a_J15_init (gz τ.1) τ1 = some τ2 ∧ SBs τ2.1 τ2.2 (gz τ.1) (gz τ.1 + 1) 0 (fun _ => 0) ∧ gz τ2.1 = gz τ.1 + 2 ∧ STz (gz τ.1) τ τ2 ∧ grc τ2.1 = grc τ.1 - 2 ∧ grs τ2.1 = grs τ.1 - 20 ∧ gN τ2.1 (gz τ.1 + 1) = 16 := by
  obtain ⟨g, c⟩ := τ
  dsimp only at *
  generalize hz : gz g = z at *
  have e1 := aNew_ok (t := 20) (τ := (g, c)) (by dsimp only; omega) (by dsimp only; show 4 ≤ _; omega)
  rw [show kN 20 = 4 from rfl] at e1
  dsimp only at e1
  rw [hz] at e1
  have t1 : gT (nG g 20 0 4) z = 20 := by rw [nG_T, hz, if_pos rfl]
  have z1 : gz (nG g 20 0 4) = z + 1 := by rw [nG_z, hz]
  have e2 := aArr_ok (t := 103) (n := 16) (τ := (nG g 20 0 4, zC c z)) (by dsimp only; rw [nG_c]; omega) (by dsimp only; rw [nG_s]; omega) (by omega)
  dsimp only at e2
  rw [z1] at e2
  refine ⟨_, (nG (nG g 20 0 4) 103 16 16, uI (uR (zC (zC c z) (z + 1)) 2000 z (some (z + 1))) 2001 z 0), e1, ?_, ⟨?_, by omega, ?_, ?_, by omega, ?_, ?_, ?_, ?_, fun i hi => absurd hi (Nat.not_lt_zero i)⟩, by show gz (nG _ _ _ _) = _; rw [nG_z, z1], ⟨?_, fun a _ ha => ⟨?_, ?_, fun k => ?_, fun i => rfl⟩, fun a ha => ?_⟩, ?_, ?_, ?_⟩
  · unfold f_a_J15_init f_a_J14_init
    rw [show (16 : Int32) = nI 16 from rfl, e2, xbd_some]
    dsimp only
    rw [if_pos (by rw [nG_T, z1, if_neg (by omega)]; exact t1), Option.bind_some]
  · show gT (nG _ _ _ _) z = 20
    rw [nG_T, z1, if_neg (by omega)]; exact t1
  · show cR (uI (uR _ 2000 z _) 2001 z 0) 2000 z = _
    rw [cR_uI, cR_uR, if_pos ⟨rfl, rfl⟩]
  · show gT (nG _ _ _ _) (z + 1) = 103
    rw [nG_T, z1, if_pos rfl]
  · show 16 ≤ gN (nG _ _ _ _) (z + 1)
    rw [nG_N, z1, if_pos rfl]; omega
  · show gN (nG _ _ _ _) (z + 1) ≤ _
    rw [nG_N, z1, if_pos rfl]; omega
  · show cI (uI _ 2001 z 0) 2001 z = _
    rw [cI_uI, if_pos ⟨rfl, rfl⟩]; rfl
  · show cI (uI (uR (zC (zC c z) (z + 1)) 2000 z _) 2001 z 0) 2003 z = _
    rw [cI_uI, if_neg (by omega), cI_uR, zC_I, if_neg (by omega), zC_I, if_pos rfl]; rfl
  · show gz g ≤ gz (nG _ _ _ _)
    rw [nG_z, z1, hz]; omega
  · show gT (nG _ _ _ _) a = gT g a
    rw [nG_T, z1, if_neg (by omega), nG_T, hz, if_neg (by omega)]
  · show gN (nG _ _ _ _) a = gN g a
    rw [nG_N, z1, if_neg (by omega), nG_N, hz, if_neg (by omega)]
  · show gR (nG _ _ _ _) k a = gR g k a
    rw [nG_R, z1, if_neg (by omega), nG_R, hz, if_neg (by omega)]
  · exact (((zC_e (by omega)).trans (zC_e (by omega))).uR (by omega)).uI (by omega)
  · show grc (nG _ _ _ _) = _
    rw [nG_c, nG_c]; omega
  · show grs (nG _ _ _ _) = _
    rw [nG_s, nG_s]; omega
  · show gN (nG _ _ _ _) (z + 1) = 16
    rw [nG_N, z1, if_pos rfl]
end ZZC1
