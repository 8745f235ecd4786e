/-! PLAIN LAW: statements: bend, of both; the end of a statement -/
set_option maxRecDepth 100000
/-- what a statement leaves ahead of its end -/
def JSx (X n : Nat) (B : Nat → Nat) (V : Nat) (v : VQ) (τc : CS) (τ : TS) (a : Nat) {R : Type} (ok : R) (r : (R ⊕ Nat) × CS) (q : TS) : Prop := BAD X V (60 * (n + 2 - a)) (600 * (n + 2 - a)) τc τ r q ∨
  (∃ p, r.1 = .inr (X + 29) ∧ FLT r.2.2 X 1 p ∧ PM V X τc r.2 ∧ grc τc.1 ≤ grc r.2.1 + 60 * (n + 2 - a) ∧ grs τc.1 ≤ grs r.2.1 + 600 * (n + 2 - a) ∧ TRd q n B p ∧ ltB (cur B n p) = true ∧ TZ τ q) ∨
  ∃ v' a' p', r.1 = .inl ok ∧ JV X n B V r.2 q v' a' p' ∧ qn v' 3 = qn v 3 ∧ PM V X τc r.2 ∧ TZ τ q ∧ a < sk B n a' ∧ grc τc.1 ≤ grc r.2.1 + 60 * (sk B n a' - a) + 6 * wl B n (sk B n a') ∧ grs τc.1 ≤ grs r.2.1 + 600 * (sk B n a' - a) + 12 * wl B n (sk B n a')
section ZZW3
variable {X n V a p : Nat} {B : Nat → Nat} {τc τc' : CS} {τ τ' : TS} {v v' : VQ}
theorem JSt.x {R : Type} {ok : R} {r : (R ⊕ Nat) × CS} {q : TS} (h : JSt X n B V v τc τ a ok r q) : JSx X n B V v τc τ a ok r q := by
  rcases h with h | ⟨v', a', p', h1, h2, h3, h4, h5, h6, h7, h8⟩
  · exact Or.inl h
  · exact Or.inr (Or.inr ⟨v', a', p', h1, h2, h3, h4, h5, h6, by omega, by omega⟩)
theorem J_bend {s : Nat} (hj : JV X n B V τc τ v a p) (hm1 : 60 * (n + 2 - a) ≤ grc τc.1) (hm2 : 600 * (n + 2 - a) + 2 * n + 10 ≤ grs τc.1) : OK2 (Jc_X2_more_86 (X + 28) (nI s) 1 τc) (f_t_codesTold 1 (nI s) τ) (fun r q => JSx X n B V v τc τ a () r q) := by
  obtain ⟨ha, hn, hgz, -⟩ := hj.1.le
  have g := sk_g (B := B) ha
  have hvz := hj.vz
  unfold Jc_X2_more_86
  rw [if_neg (by decide), if_pos rfl, if_pos hj.1.1.1.2.2.1, hj.2.2.2.2.2.2.1, Option.bind_some, if_pos hj.2.2.2.1.1.1]
  unfold Jc_X2_more_173
  by_cases hq : qb v = none
  · obtain ⟨h0, ht⟩ := hj.b0.1 hq
    rw [if_pos h0, if_pos hj.1.1.1.2.2.1, C_most0, xbx_l, if_pos hj.1.1.1.2.2.1]
    obtain ⟨jx, pmx⟩ := JV.cx (x := 783) hj
    obtain ⟨k1, k2, k3, k4, ⟨cd, k5, k6⟩, k7, k8, k9⟩ := jx
    dsimp only at k4 k8
    rw [show cR (uI τc.2 305 (X + 28) 783) 306 (X + 28) = some V from k8, Option.bind_some]
    obtain ⟨⟨rr, τ2⟩, e2, p2, hh⟩ := (C_tefa (kx := 1) (X := X) (n := n) (B := B) (by omega) 8 0 (by omega)).1 (τc.1, uI τc.2 305 (X + 28) 783) a ⟨k1, by show cI (uI τc.2 305 (X + 28) 783) 305 (X + 28) = _; rw [cI_uI, if_pos ⟨rfl, rfl⟩]; rfl, by show _ ≤ grc τc.1 + 0; omega, by show _ ≤ grs τc.1 + 0; omega⟩
    rw [e2]
    dsimp only at p2 hh
    obtain ⟨ta, tz⟩ := bgT_ok (w := 1) (cd := cd) k2 k6
    have hcT : f_t_codesTold 1 (nI s) τ = (f_t_qTest (bgT τ 1)).bind fun τ3 => Jt_codesTold_72 1 τ3 := by
      unfold f_t_codesTold Jt_codesTold_23
      rw [if_pos k2.1.2.1, if_pos (by decide), show (1 : Int32).toNatClampNeg = 1 by decide, if_pos ht, if_pos k2.1.2.1, if_pos rfl]
      rfl
    rw [hcT]
    have pm2 : PM V X τc τ2 := pmx.trans (PF.pl p2 (by show V ≤ gz τc.1; omega)).m
    rcases hh with ⟨kf, q, u1, u2, u3, u4, u5⟩ | ⟨ev, cs, p1, a1, u1, u2, u3, u4, u5, u6, u7, u8⟩
    · subst u1
      obtain ⟨s1, -⟩ := T_qTest (by omega) u3 ta k3.symm
      obtain ⟨f1, f2, r', f3, f5, f4⟩ := s1 kf q rfl
      have u4 : grc τc.1 + 0 ≤ grc τ2.1 + 60 * (n + 2 - a) + 3 * 0 * 0 := u4
      have u5 : grs τc.1 + 0 ≤ grs τ2.1 + 600 * (n + 2 - a) + 6 * 0 * 0 := u5
      rw [xbx_r, f3, Option.bind_some]
      rcases f4 with f4 | ⟨rfl, f6, out', f7, f8⟩
      · have j72 : Jt_codesTold_72 1 r' = some r' := by
          unfold Jt_codesTold_72
          rw [if_neg (f4.bad f1 f2)]
        rw [j72]
        exact OK2_some (Or.inl ⟨kf, q, rfl, u2, pm2, by dsimp only; omega, by dsimp only; omega, f4, f1, f2, tz.trans f5.z⟩)
      · have tv1 : TVh r' cd v := (k5.bg (w := 1)).y f5
        have hq2 := f7.1.1.2.2.2.2
        obtain ⟨q', m0, m1, m2, m3, m4, m5, m6, m7⟩ := T_72 (w := 1) (cs := out') (by omega) f7.1.2.1 f7.2.2.2.2.1 (tv1.2.2.2.2.2.2.2.2.2.1) (by omega)
        rw [show Jt_codesTold_72 1 r' = some q' from m0]
        have hw2 : TW r' := (k2.2.z tz).z f5.z
        exact OK2_some (Or.inr (Or.inl ⟨q, rfl, u2, pm2, by dsimp only; omega, by dsimp only; omega, ⟨f7.1.of (fun k hk => m5 k (by omega)) (fun i => m6 0 i (by omega) (by omega)), hw2.z m1⟩, f6, (tz.trans f5.z).trans m1⟩))
    · subst u1
      obtain ⟨-, s2⟩ := T_qTest (by omega) u2 ta k3.symm
      obtain ⟨ap, r', f3, f4, f5, f6, f7⟩ := s2 cs p1 rfl
      rw [List.nil_append] at f6
      obtain ⟨hap, -⟩ := f6.le
      have cnt := f6.2.2.2
      have hcnt : cs.length + cd ≤ ap := by simpa using cnt
      have tv1 : TVh r' cd v := (k5.bg (w := 1)).y f7
      obtain ⟨q, m0, m1, m2, m3, m4, m5, m6, m7⟩ := T_72 (w := 1) (cs := cs) (by omega) f6.1.1.2.1 f6.1.2.2.2.2.1 (tv1.2.2.2.2.2.2.2.2.2.1) (by omega)
      rw [xbx_l, f3, Option.bind_some, show Jt_codesTold_72 1 r' = some q from m0]
      have t2 : gT τ2.1 V = 2 := by
        have := p2.2.1 V (by omega) (by show V < gz τc.1; omega)
        rw [this.1]; exact k4.1.1
      rw [if_pos t2]
      have u5' : TVAL 1 X 53 (gz τc.1) (gz τ2.1) τ2.1 τ2.2 ev cs := u5
      have hgz2 : gz τc.1 ≤ gz τ2.1 := p2.1
      have k4' : CVh τ2.1 τ2.2 X V (gz τc.1) v := by
        obtain ⟨a1', a2'⟩ := p2.ag (lo := V) (hi := gz τc.1) (by omega) (Nat.le_refl _)
        exact k4.of a1' a2' (Nat.le_refl _)
      have hcc : ∀ b, b ≠ V → Eq1 τ2.2 (uR τ2.2 210 V (some ev)) b := fun b hb => (Eq1.refl τ2.2 b).uR hb
      have cv : CVh τ2.1 (uR τ2.2 210 V (some ev)) X V (gz τ2.1) (setb v cs) := by
        obtain ⟨w1, w2, w3, t1, t2', t3, arr, ad, n1, n2, n3, n4, n5, n6⟩ := k4'
        refine ⟨w1, by omega, w3, t1, t2', t3, arr, ad, n1.of rfl ⟨rfl, rfl⟩ (fun _ _ => rfl) (hcc _ (by omega)) (hcc _ (by omega)), n2, by omega, fun k hk => ?_, ?_, ?_⟩
        · exact ((n4 k hk).of (c' := uR τ2.2 210 V (some ev)) (fun _ _ _ _ => ⟨rfl, rfl, fun _ => rfl⟩) (fun b b1 b2 _ => hcc b (by omega))).up hgz2
        · have := n5.cell (c' := uR τ2.2 210 V (some ev)) (fun b _ _ hb => hcc b hb) (by rw [cR_uR, if_neg (by omega)])
          show EVh τ2.1 _ X V (gz τ2.1) arr (qe v)
          unfold EVh at this ⊢
          cases hb : qe v with
          | none => rw [hb] at this; exact this
          | some cs2 =>
            rw [hb] at this
            obtain ⟨e, elo, ehi, d1, d2, d3, d4, d5⟩ := this
            exact ⟨e, elo, ehi, d1, d2, d3, by omega, d5⟩
        · exact ⟨ev, gz τc.1, gz τ2.1, by rw [cR_uR, if_pos ⟨rfl, rfl⟩], u5'.of (fun _ _ _ => ⟨rfl, rfl, fun _ => rfl, fun _ => rfl⟩) (fun b b1 b2 => hcc b (by omega)), by omega, Nat.le_refl _, Or.inl n3⟩
      have hok : okX 1 cs := by
        obtain ⟨-, -, -, G, -, x1, -⟩ := u5'
        exact x1
      have tv2 : TVh q (cd + cs.length) (setb v cs) := tv1.bend hq m3 m4 m5 m6 m7 m2 (by omega)
      have rd2 : TRd q n B ap := ⟨f6.1.1.of (fun k hk => m5 k (by omega)) (fun i => m6 0 i (by omega) (by omega)), f6.2.1.z m1⟩
      have st : STz V τ2 (τ2.1, uR τ2.2 210 V (some ev)) := ⟨Nat.le_refl _, AgG.refl _ _ _, fun b hb => hcc b (by omega)⟩
      have u7 : grc τc.1 + 0 ≤ grc τ2.1 + 60 * (sk B n a1 - a) + 3 * 2 * wl B n (sk B n a1) := u7
      have u8 : grs τc.1 + 0 ≤ grs τ2.1 + 600 * (sk B n a1 - a) + 6 * 2 * wl B n (sk B n a1) := u8
      have k306 : cR τ2.2 306 (X + 28) = some V := by rw [p2.2.2.2.2]; exact k8
      have jv : JV X n B V (τ2.1, uR τ2.2 210 V (some ev)) q (setb v cs) a1 ap := ⟨u4.st st k9, rd2, by rw [u3, f4], cv, ⟨_, tv2, by omega⟩, k7.b hok, by rw [(hcc (X + 28) (by omega)).2.2.1]; exact k306, k9⟩
      refine OK2_some (Or.inr (Or.inr ⟨_, a1, ap, rfl, jv, rfl, pm2.trans (st.pl (by omega)).m, (tz.trans f7.z).trans m1, u6, ?_, ?_⟩))
      · show grc τc.1 ≤ grc τ2.1 + _ + _
        omega
      · show grs τc.1 ≤ grs τ2.1 + _ + _
        omega
  · obtain ⟨h0, ht⟩ := hj.b0.2 hq
    obtain ⟨q, e1, hb⟩ := J_twice (R := Unit) (s := s) (w := 1) hj (by omega) ht
    rw [if_neg h0, if_pos hj.1.1.1.2.2.1, C_most1 hj.1, xbx_r, show f_t_codesTold 1 (nI s) τ = some q from e1]
    exact OK2_some (Or.inl (hb.w (Nat.zero_le _) (Nat.zero_le _)))
/-- the end of a statement, of both -/
def JEn (X n : Nat) (B : Nat → Nat) (V : Nat) (v : VQ) (τc : CS) (τ : TS) (a : Nat) (r : CS ⊕ (CS ⊕ ((Nat ⊕ Nat) × CS))) (q : TS) : Prop :=
  (∃ k p τ', r = .inr (.inr (.inr (X + 29), τ')) ∧ FLT τ'.2 X k p ∧ PM V X τc τ' ∧ grc τc.1 ≤ grc τ'.1 + 60 * (n + 2 - a) ∧ grs τc.1 ≤ grs τ'.1 + 600 * (n + 2 - a) ∧ TFw q k p ∧ 0 < k ∧ k < 100 ∧ TZ (sI τ 59 (tI q 59)) q) ∨
  ∃ v' τ' a', r = .inl τ' ∧ JV X n B V τ' q v' a' a' ∧ qn v' 3 = qn v 3 ∧ tI q 59 = tI τ 59 + 1 ∧ PM V X τc τ' ∧ TZ (sI τ 59 (tI q 59)) q ∧ a < a' ∧ grc τc.1 ≤ grc τ'.1 + 60 * (a' - a) ∧ grs τc.1 ≤ grs τ'.1 + 600 * (a' - a)
theorem n59Z {x : Int32} (h : TZ τ τ') : TZ (sI τ 59 x) (sI τ' 59 x) := ⟨fun k hk => by
  rw [tI_sI, tI_sI]
  split
  · rfl
  · exact h.1 k hk, h.2.1, h.2.2.1, h.2.2.2⟩
/-- behind what was told: the sign at the end -/
theorem J_semi {R : Type} {ok : R} {r : (R ⊕ Nat) × CS} {q : TS} {h : R → CS → Option (CS ⊕ (CS ⊕ ((Nat ⊕ Nat) × CS)))} (ha : a ≤ n) (hx : JSx X n B V v τc τ a ok r q) (hok : ∀ τ', h ok τ' = Jc_X2_all_164 (X + 28) τ') : OK2 (xbx (some r) h (fun q40 τ40 => some (.inr (.inr (.inr q40, τ40))))) (Jt_statementTold_153 q) (JEn X n B V v τc τ a) := by
  obtain ⟨r1, τ1⟩ := r
  unfold Jt_statementTold_153
  rcases hx with ⟨k, p, b1, b2, b3, b4, b5, b6, b7, b8, b9⟩ | ⟨p, b1, b2, b3, b4, b5, b6, b7, b8⟩ | ⟨v', a', p', b1, b2, b3, b4, b5, b6, b7, b8⟩
  · dsimp only at b1
    subst b1
    have h5 := b6.bad b7 b8
    rw [xbx_r, show (59 : Int32) = nI 59 from rfl, T_asksSignBad h5, Option.bind_some]
    refine OK2_some (Or.inl ⟨k, p, τ1, rfl, b2, b3, b4, b5, ⟨by rw [tI_sI, if_neg (by omega)]; exact b6.1, by rw [tI_sI, if_neg (by omega)]; exact b6.2⟩, b7, b8, ?_⟩)
    rw [tI_sI, if_pos rfl]
    exact n59Z b9
  · dsimp only at b1
    subst b1
    have hl := ltB_b b7
    have hp := b6.1.1.2.2.2.2
    have hpn : p < n := by
      unfold cur at hl
      by_cases e : p < n
      · exact e
      · rw [if_neg e] at hl; omega
    have hsp : sk B n p = p := sk_s hpn (by
      have : B p = cur B n p := by unfold cur; rw [if_pos hpn]
      rw [this]
      unfold blB
      simp
      omega)
    obtain ⟨q2, e2, z2, -, -, n2⟩ := T_signR (x := 59) b6 (by omega) rfl rfl
    rw [hsp] at n2
    rw [xbx_r, show (59 : Int32) = nI 59 from rfl, e2, Option.bind_some]
    have n2 := n2 (by omega)
    refine OK2_some (Or.inl ⟨1, p, τ1, rfl, b2, b3, b4, b5, ⟨by rw [tI_sI, if_neg (by omega)]; exact n2.1, by rw [tI_sI, if_neg (by omega)]; exact n2.2⟩, by omega, by omega, ?_⟩)
    rw [tI_sI, if_pos rfl]
    exact n59Z (b8.trans z2)
  · dsimp only at b1
    subst b1
    rw [xbx_l, hok]
    unfold Jc_X2_all_164
    dsimp only at b2 b4 b7 b8
    have hvz := b2.vz
    have ga := sk_g (B := B) b2.1.le.1
    have hwl := wl_le (B := B) ga.2.1
    rw [if_pos b2.1.1.1.2.2.1]
    obtain ⟨⟨r3, τ3⟩, q3, e3, e4, hh⟩ := J_sign (x := 59) b2.1 b2.2.1 b2.2.2.1 (by omega) rfl rfl (Nat.le_refl (gz τ1.1))
    rw [show (59 : Int32) = nI 59 from rfl, e3, e4, Option.bind_some]
    rcases hh with ⟨k, p, c1, c2, c3, c4, c5, c6, c7, c8, c9⟩ | ⟨c1, c2, c3, c4, c5, c6, c7, c8⟩
    · dsimp only at c1 c3 c4 c5
      subst c1
      rw [xbx_r]
      refine OK2_some (Or.inl ⟨k, p, τ3, rfl, c2, b4.trans (c3.le (by omega)), by omega, by omega, ⟨by rw [tI_sI, if_neg (by omega)]; exact c6.1, by rw [tI_sI, if_neg (by omega)]; exact c6.2⟩, c7, c8, ?_⟩)
      rw [tI_sI, if_pos rfl]
      exact n59Z (b5.trans c9)
    · dsimp only at c1 c4 c6 c7
      subst c1
      rw [xbx_l]
      have wl0 := wl_sign c2 (by decide)
      rw [wl0] at b7 b8
      have e59 : tI q3 59 = tI τ 59 := by rw [c8.1 59 rfl, b5.1 59 rfl]
      have gg : grc τ3.1 = grc τ1.1 ∧ grs τ3.1 = grs τ1.1 := by rw [c7]; exact ⟨rfl, rfl⟩
      have jv : JV X n B V τ3 (sI q3 59 (tI q3 59 + 1)) v' (sk B n a' + 1) (sk B n a' + 1) := by
        obtain ⟨k1, k2, k3, k4, ⟨cd, k5, k6⟩, k7, k8, k9⟩ := b2
        have hp' := sk_g (B := B) k2.1.1.2.2.2.2
        have tv : TVh q3 cd v' := by
          obtain ⟨q2, e2, -, y2, -⟩ := T_signR (x := 59) k2 (by omega) rfl rfl
          have : q2 = q3 := by rw [e2] at e4; injection e4
          rw [← this]
          exact k5.y y2
        exact ⟨c4, c5.sI (by omega), rfl, k4.pf (show PF X τ1 τ3 from c6) (by omega) (Nat.le_refl _), ⟨cd, tv.of (fun k hk => by rw [tI_sI, if_neg (by omega)]) (fun _ _ _ _ => rfl) (fun _ => rfl), by rw [k3]; omega⟩, k7, by rw [(show PF X τ1 τ3 from c6).2.2.2.2]; exact k8, k9⟩
      refine OK2_some (Or.inr ⟨v', τ3, sk B n a' + 1, rfl, jv, b3, by rw [tI_sI, if_pos rfl, e59], b4.trans (c6.m.le (by omega)), ?_, by omega, by omega, by omega⟩)
      rw [tI_sI, if_pos rfl]
      exact n59Z (b5.trans c8)
end ZZW3
