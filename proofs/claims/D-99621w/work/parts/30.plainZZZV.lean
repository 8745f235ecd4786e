/-! PLAIN LAW: statements: eats, bend, of both -/
set_option maxRecDepth 100000
section ZZV3
variable {X n V a p : Nat} {B : Nat → Nat} {τc τc' : CS} {τ τ' : TS} {v v' : VQ}
theorem C_most0 {x : Int32} : f_x_X2_most (X + 28) 0 x τc = some (.inl (), τc) := by
  unfold f_x_X2_most
  rw [if_pos rfl]
theorem C_most1 {x : Int32} (hP : PI τc X n B a 0) : f_x_X2_most (X + 28) 1 x τc = some (.inr (X + 29), (τc.1, uI (uI τc.2 406 (X + 29) 5) 407 (X + 29) x)) := by
  unfold f_x_X2_most
  rw [if_neg (by decide), if_pos hP.1.1.2.2.1, C_wrong hP.1.1, xbd_some, if_pos hP.1.1.2.2.2.2.1]
/-- the state with the context told -/
theorem JV.cx {x : Int32} (h : JV X n B V τc τ v a p) : JV X n B V (τc.1, uI τc.2 305 (X + 28) x) τ v a p ∧ PM V X τc (τc.1, uI τc.2 305 (X + 28) x) := by
  have hvz := h.vz
  obtain ⟨k1, k2, k3, k4, k5, k7, k8, k9⟩ := h
  have e : ∀ b, b ≠ X + 28 → Eq1 τc.2 (uI τc.2 305 (X + 28) x) b := fun b hb => (Eq1.refl τc.2 b).uI hb
  exact ⟨⟨k1.cx, k2, k3, k4.of (AgG.refl _ _ _) (fun b b1 b2 => e b (by omega)) (Nat.le_refl _), k5, k7, k8, k9⟩, Nat.le_refl _, AgG.refl _ _ _, fun b b1 b2 b3 => e b b2⟩
theorem J_eats {s : Nat} (hj : JV X n B V τc τ v a p) (hm1 : 60 * (n + 2 - a) ≤ grc τc.1) (hm2 : 600 * (n + 2 - a) + 2 * n + 10 ≤ grs τc.1) : OK2 (Jc_X2_more_86 (X + 28) (nI s) 0 τc) (f_t_codesTold 0 (nI s) τ) (fun r q => JSt X n B V v τc τ a () r q) := by
  obtain ⟨ha, hn, hgz, -⟩ := hj.1.le
  have g := sk_g (B := B) ha
  have hvz := hj.vz
  unfold Jc_X2_more_86
  rw [if_pos rfl, if_pos hj.1.1.1.2.2.1, hj.2.2.2.2.2.2.1, Option.bind_some, if_pos hj.2.2.2.1.1.1]
  unfold Jc_X2_more_132
  by_cases hq : qe v = none
  · obtain ⟨h0, ht⟩ := hj.e0.1 hq
    rw [if_pos h0, if_pos hj.1.1.1.2.2.1, C_most0, xbx_l, if_pos hj.1.1.1.2.2.1]
    obtain ⟨jx, pmx⟩ := JV.cx (x := 255) hj
    obtain ⟨k1, k2, k3, k4, ⟨cd, k5, k6⟩, k7, k8, k9⟩ := jx
    dsimp only at k4 k8
    rw [show cR (uI τc.2 305 (X + 28) 255) 306 (X + 28) = some V from k8, Option.bind_some]
    obtain ⟨⟨rr, τ2⟩, e2, p2, hh⟩ := (C_sura (kx := 0) (X := X) (n := n) (B := B) (by omega) 8 0 (by omega)).1 (τc.1, uI τc.2 305 (X + 28) 255) a ⟨k1, by show cI (uI τc.2 305 (X + 28) 255) 305 (X + 28) = _; rw [cI_uI, if_pos ⟨rfl, rfl⟩]; rfl, by show _ ≤ grc τc.1 + 0; omega, by show _ ≤ grs τc.1 + 0; omega⟩
    rw [e2]
    dsimp only at p2 hh
    obtain ⟨ta, tz⟩ := bgT_ok (w := 0) (cd := cd) k2 k6
    have hcT : f_t_codesTold 0 (nI s) τ = (f_t_qSums (bgT τ 0)).bind fun τ3 => Jt_codesTold_72 0 τ3 := by
      unfold f_t_codesTold Jt_codesTold_23
      rw [if_pos k2.1.2.1, if_pos (by decide), show (0 : Int32).toNatClampNeg = 0 by decide, if_pos ht, if_pos k2.1.2.1, if_neg (by decide)]
      rfl
    rw [hcT]
    have pm2 : PM V X τc τ2 := pmx.trans (PF.pl p2 (by show V ≤ gz τc.1; omega)).m
    rcases hh with ⟨kf, q, u1, u2, u3, u4, u5⟩ | ⟨ev, cs, a1, u1, u2, u3, u4, u5, u6, u7⟩
    · subst u1
      obtain ⟨s1, -⟩ := T_qSums (by omega) u3 ta k3.symm (fun y _ _ => rfl)
      obtain ⟨f1, f2, r', f3, f4, f5⟩ := s1 kf q rfl
      have j72 : Jt_codesTold_72 0 r' = some r' := by
        unfold Jt_codesTold_72
        rw [if_neg (f4.bad f1 f2)]
      rw [xbx_r, f3, Option.bind_some, j72]
      have u4 : grc τc.1 + 0 ≤ grc τ2.1 + 40 * (n + 2 - a) := u4
      have u5 : grs τc.1 + 0 ≤ grs τ2.1 + 400 * (n + 2 - a) := u5
      exact OK2_some (Or.inl ⟨kf, q, rfl, u2, pm2, by dsimp only; omega, by dsimp only; omega, f4.w, f1, f2, tz.trans f5.z⟩)
    · subst u1
      obtain ⟨-, s2⟩ := T_qSums (by omega) u2 ta k3.symm (fun y _ _ => rfl)
      obtain ⟨ap, r', f3, f4, f5, f6, f7⟩ := s2 cs a1 rfl
      rw [List.nil_append] at f6
      obtain ⟨hap, -⟩ := f6.le
      have cnt := f6.2.2.2
      have hcnt : cs.length + cd ≤ ap := by simpa using cnt
      have tv1 : TVh r' cd v := (k5.bg (w := 0)).y f7
      obtain ⟨q, m0, m1, m2, m3, m4, m5, m6, m7⟩ := T_72 (w := 0) (cs := cs) (by omega) f6.1.1.2.1 f6.1.2.2.2.2.1 (tv1.2.2.2.2.2.2.2.2.2.1) (by omega)
      rw [xbx_l, f3, Option.bind_some, show Jt_codesTold_72 0 r' = some q from m0]
      have t2 : gT τ2.1 V = 2 := by
        have := p2.2.1 V (by omega) (by show V < gz τc.1; omega)
        rw [this.1]; exact k4.1.1
      rw [if_pos t2]
      have u4' : VAL 0 X 26 (gz τc.1) (gz τ2.1) τ2.1 τ2.2 ev cs := u4
      have hgz2 : gz τc.1 ≤ gz τ2.1 := p2.1
      have k4' : CVh τ2.1 τ2.2 X V (gz τc.1) v := by
        obtain ⟨a1', a2'⟩ := p2.ag (lo := V) (hi := gz τc.1) (by omega) (Nat.le_refl _)
        exact k4.of a1' a2' (Nat.le_refl _)
      have hcc : ∀ b, b ≠ V → Eq1 τ2.2 (uR τ2.2 209 V (some ev)) b := fun b hb => (Eq1.refl τ2.2 b).uR hb
      have cv : CVh τ2.1 (uR τ2.2 209 V (some ev)) X V (gz τ2.1) (sete v cs) := by
        have k4'' := k4'
        obtain ⟨w1, w2, w3, t1, t2', t3, arr, ad, n1, n2, n3, n4, n5, n6⟩ := k4''
        have cvA : CVh τ2.1 (uR τ2.2 209 V (some ev)) X V (gz τ2.1) (sete v cs) := by
          refine ⟨w1, by omega, w3, t1, t2', t3, arr, ad, n1.of rfl ⟨rfl, rfl⟩ (fun _ _ => rfl) (hcc _ (by omega)) (hcc _ (by omega)), n2, by omega, fun k hk => ?_, ?_, ?_⟩
          · exact ((n4 k hk).of (c' := uR τ2.2 209 V (some ev)) (fun _ _ _ _ => ⟨rfl, rfl, fun _ => rfl⟩) (fun b b1 b2 _ => hcc b (by omega))).up hgz2
          · refine ⟨ev, gz τc.1, gz τ2.1, by rw [cR_uR, if_pos ⟨rfl, rfl⟩], u4'.of (fun _ _ _ => ⟨rfl, rfl, fun _ => rfl, fun _ => rfl⟩) (fun b b1 b2 => hcc b (by omega)), by omega, Nat.le_refl _, Or.inl n3⟩
          · have := n6.cell (c' := uR τ2.2 209 V (some ev)) (fun b _ _ hb => hcc b hb) (by rw [cR_uR, if_neg (by omega)])
            show BVh τ2.1 _ X V (gz τ2.1) arr (qb v)
            unfold BVh at this ⊢
            cases hb : qb v with
            | none => rw [hb] at this; exact this
            | some cs2 =>
              rw [hb] at this
              obtain ⟨e, elo, ehi, d1, d2, d3, d4, d5⟩ := this
              exact ⟨e, elo, ehi, d1, d2, d3, by omega, d5⟩
        exact cvA
      have hok : okX 0 cs := by
        obtain ⟨-, -, -, G, -, -, x1, -⟩ := u4'
        exact x1
      have tv2 : TVh q (cd + cs.length) (sete v cs) := tv1.eats hq m3 m4 m5 m6 m7 m2 (by omega)
      have rd2 : TRd q n B ap := ⟨f6.1.1.of (fun k hk => m5 k (by omega)) (fun i => m6 0 i (by omega) (by omega)), f6.2.1.z m1⟩
      have st : STz V τ2 (τ2.1, uR τ2.2 209 V (some ev)) := ⟨Nat.le_refl _, AgG.refl _ _ _, fun b hb => hcc b (by omega)⟩
      have ga := sk_g (B := B) u3.le.1
      have u6 : grc τc.1 + 0 ≤ grc τ2.1 + 40 * (a1 - a) := u6
      have u7 : grs τc.1 + 0 ≤ grs τ2.1 + 400 * (a1 - a) := u7
      have k306 : cR τ2.2 306 (X + 28) = some V := by rw [p2.2.2.2.2]; exact k8
      have jv : JV X n B V (τ2.1, uR τ2.2 209 V (some ev)) q (sete v cs) a1 ap := ⟨u3.st st k9, rd2, f4.symm, cv, ⟨_, tv2, by omega⟩, k7.e hok, by rw [(hcc (X + 28) (by omega)).2.2.1]; exact k306, k9⟩
      refine OK2_some (Or.inr ⟨_, a1, ap, rfl, jv, rfl, pm2.trans (st.pl (by omega)).m, (tz.trans f7.z).trans m1, by omega, ?_, ?_⟩)
      · show grc τc.1 ≤ grc τ2.1 + _
        omega
      · show grs τc.1 ≤ grs τ2.1 + _
        omega
  · obtain ⟨h0, ht⟩ := hj.e0.2 hq
    obtain ⟨q, e1, hb⟩ := J_twice (R := Unit) (s := s) (w := 0) hj (by omega) ht
    rw [if_neg h0, if_pos hj.1.1.1.2.2.1, C_most1 hj.1, xbx_r, show f_t_codesTold 0 (nI s) τ = some q from e1]
    exact OK2_some (Or.inl (hb.w (Nat.zero_le _) (Nat.zero_le _)))
end ZZV3
