set_option maxRecDepth 100000
theorem call_d_at_X19_45 {D : CD} {P : CP} {K : xK} {M : xM} {Q : State → Prop} {g : CG} {c : CC} {a m d_ : Nat} {f_ : Nat → Nat → CG → CC → Option (Int64 × CC)} {pc : Nat} {loc : List (Nat × Value)} {st : List Value} {r : Int64} {c1 : CC} (H : DAT D P d_ f_) (hf : f_ a m g c = some (r, c1)) (ho : M.2.2.1 = RX19) (hfr : 12 + d_ + 1 ≤ M.2.2.2.1) (hlo : 60 * (12 + d_) + 60 ≤ M.2.2.2.2.1) (hcat : (st.map fun v => v.category).sum ≤ 8) (d : decode M.1 pc = .ok (.invokevirtual 45, 3)) (k : xV (wC D P) K M Q (g, c1) (pc + 3) loc (.long r :: st)) : xV (wC D P) K M Q (g, c) pc loc (.ref m :: .ref a :: st) := by
  rcases H K.2.1 a m g c r c1 hf with ⟨ht, hM⟩ | ⟨ht, hM⟩ | ⟨ht, hM⟩ | ⟨ht, hM⟩ | ⟨ht, hM⟩
  · exact yc_callA (n := 1) (As := [.ref m]) (rest := st) (z := ⟨"BentRiver$Value", "at", "(LBentRiver$Moment;)J"⟩) hM (lw_2 q1698 q1325 (lw_2 q1385 q1347 (lw_1 q202 (lw_meth q1348)))) q1324 (by decide +kernel) ho hfr (by omega) rfl ht (by decide) (by decide) rfl rfl hcat d k
  · exact yc_callA (n := 1) (As := [.ref m]) (rest := st) (z := ⟨"BentRiver$Value", "at", "(LBentRiver$Moment;)J"⟩) hM (lw_2 q1698 q1325 (lw_2 q1326 q1327 (lw_1 q203 (lw_meth q1328)))) q1324 (by decide +kernel) ho hfr (by omega) rfl ht (by decide) (by decide) rfl rfl hcat d k
  · exact yc_callA (n := 1) (As := [.ref m]) (rest := st) (z := ⟨"BentRiver$Value", "at", "(LBentRiver$Moment;)J"⟩) hM (lw_2 q1698 q1325 (lw_2 q1387 q1352 (lw_1 q201 (lw_meth q1353)))) q1324 (by decide +kernel) ho hfr (by omega) rfl ht (by decide) (by decide) rfl rfl hcat d k
  · exact yc_callA (n := 1) (As := [.ref m]) (rest := st) (z := ⟨"BentRiver$Value", "at", "(LBentRiver$Moment;)J"⟩) hM (lw_2 q1698 q1325 (lw_2 q1340 q1341 (lw_1 q198 (lw_meth q1342)))) q1324 (by decide +kernel) ho hfr (by omega) rfl ht (by decide) (by decide) rfl rfl hcat d k
  · exact yc_callA (n := 1) (As := [.ref m]) (rest := st) (z := ⟨"BentRiver$Value", "at", "(LBentRiver$Moment;)J"⟩) hM (lw_2 q1698 q1325 (lw_2 q1386 q1349 (lw_1 q204 (lw_meth q1350)))) q1324 (by decide +kernel) ho hfr (by omega) rfl ht (by decide) (by decide) rfl rfl hcat d k
theorem call_f_c_J12_max_2_X19_35 {D : CD} {P : CP} {K : xK} {M : xM} {Q : State → Prop} {g : CG} {c : CC} {x0 : Int64} {x2 : Int64} {pc : Nat} {loc : List (Nat × Value)} {st : List Value} {r : Int64} {c1 : CC} (hf : f_c_J12_max_2 g x0 x2 c = some (r, c1)) (ho : M.2.2.1 = RX19) (hfr : 1 ≤ M.2.2.2.1) (hlo : 23 ≤ M.2.2.2.2.1) (hcat : (st.map fun v => v.category).sum ≤ 8) (d : decode M.1 pc = .ok (.invokestatic 35, 3)) (k : xV (wC D P) K M Q (g, c1) (pc + 3) loc (.long r :: st)) : xV (wC D P) K M Q (g, c) pc loc (.long x2 :: .long x0 :: st) :=
  yc_callS (As := [.long x0, .long x2]) (rest := st) (met_f_c_J12_max_2 K.2.1 hf) (lw_S q1697 q1338 q194 q1339) hd_f_c_J12_max_2 ho hfr hlo rfl rfl hcat d k
theorem call_f_c_J12_min_2_X19_51 {D : CD} {P : CP} {K : xK} {M : xM} {Q : State → Prop} {g : CG} {c : CC} {x0 : Int64} {x2 : Int64} {pc : Nat} {loc : List (Nat × Value)} {st : List Value} {r : Int64} {c1 : CC} (hf : f_c_J12_min_2 g x0 x2 c = some (r, c1)) (ho : M.2.2.1 = RX19) (hfr : 1 ≤ M.2.2.2.1) (hlo : 23 ≤ M.2.2.2.2.1) (hcat : (st.map fun v => v.category).sum ≤ 8) (d : decode M.1 pc = .ok (.invokestatic 51, 3)) (k : xV (wC D P) K M Q (g, c1) (pc + 3) loc (.long r :: st)) : xV (wC D P) K M Q (g, c) pc loc (.long x2 :: .long x0 :: st) :=
  yc_callS (As := [.long x0, .long x2]) (rest := st) (met_f_c_J12_min_2 K.2.1 hf) (lw_S q1699 q1335 q194 q1336) hd_f_c_J12_min_2 ho hfr hlo rfl rfl hcat d k
theorem call_d_ho_X19_29 {D : CD} {P : CP} {K : xK} {M : xM} {Q : State → Prop} {g : CG} {c : CC} {a m d_ : Nat} {f_ : Nat → Nat → CG → CC → Option (Int32 × CC)} {pc : Nat} {loc : List (Nat × Value)} {st : List Value} {r : Int32} {c1 : CC} (H : DHO D P d_ f_) (hf : f_ a m g c = some (r, c1)) (ho : M.2.2.1 = RX19) (hfr : 12 + d_ + 1 ≤ M.2.2.2.1) (hlo : 60 * (12 + d_) + 60 ≤ M.2.2.2.2.1) (hcat : (st.map fun v => v.category).sum ≤ 8) (d : decode M.1 pc = .ok (.invokevirtual 29, 3)) (k : xV (wC D P) K M Q (g, c1) (pc + 3) loc (.int r :: st)) : xV (wC D P) K M Q (g, c) pc loc (.ref m :: .ref a :: st) := by
  rcases H K.2.1 a m g c r c1 hf with ⟨ht, hM⟩ | ⟨ht, hM⟩ | ⟨ht, hM⟩ | ⟨ht, hM⟩
  · exact yc_callA (n := 1) (As := [.ref m]) (rest := st) (z := ⟨"BentRiver$Test", "holds", "(LBentRiver$Moment;)Z"⟩) hM (lw_2 q1696 q1305 (lw_2 q1306 q1307 (lw_1 q208 (lw_meth q1308)))) q1304 (by decide +kernel) ho hfr (by omega) rfl ht (by decide) (by decide) rfl rfl hcat d k
  · exact yc_callA (n := 1) (As := [.ref m]) (rest := st) (z := ⟨"BentRiver$Test", "holds", "(LBentRiver$Moment;)Z"⟩) hM (lw_2 q1696 q1305 (lw_2 q1389 q1321 (lw_1 q209 (lw_meth q1322)))) q1304 (by decide +kernel) ho hfr (by omega) rfl ht (by decide) (by decide) rfl rfl hcat d k
  · exact yc_callA (n := 1) (As := [.ref m]) (rest := st) (z := ⟨"BentRiver$Test", "holds", "(LBentRiver$Moment;)Z"⟩) hM (lw_2 q1696 q1305 (lw_2 q1388 q1318 (lw_1 q207 (lw_meth q1319)))) q1304 (by decide +kernel) ho hfr (by omega) rfl ht (by decide) (by decide) rfl rfl hcat d k
  · exact yc_callA (n := 1) (As := [.ref m]) (rest := st) (z := ⟨"BentRiver$Test", "holds", "(LBentRiver$Moment;)Z"⟩) hM (lw_2 q1696 q1305 (lw_2 q1309 q1310 (lw_1 q206 (lw_meth q1311)))) q1304 (by decide +kernel) ho hfr (by omega) rfl ht (by decide) (by decide) rfl rfl hcat d k
abbrev mX19_meets : xM := (cX19_meets, 5, RX19, 78, 4680, none, "meets")
def Jc_X19_meets_139 (g : CG) (x0 : Nat) (s0 : Int64) (s1 : Nat) (τ : CC) : Option CC :=
  if gT g s1 = 17 then
  if gT g x0 = 17 then
  some (uI (uL τ 1703 s1 s0) 1704 x0 1)
  else none
  else none
theorem ok_Jc_X19_meets_139 {D : CD} {P : CP} {K : xK} {g : CG} {Z : Option Value × CS} {x0 : Nat} {s0 : Int64} {s1 : Nat} {τ : CC} {o_ : CC} (hf : Jc_X19_meets_139 g x0 s0 s1 τ = some o_) (kr : ∀ r_ : CC, o_ = r_ → Z = (none, (g, r_))) : xV (wC D P) K mX19_meets (xQ (wC D P) K Z) (g, τ) 139 [(0, .ref x0)] [.long s0, .ref s1] := by
  unfold Jc_X19_meets_139 at hf
  obtain ⟨ht4, hf⟩ := xo_if hf
  refine yc_putL (pc := 139) 17 3 1703 ht4 (by decide) (by decide) (by decide) rfl rfl rfl (by decide +kernel) q1679 (ys_eq rfl) rfl dX19_meets_139 ?_
  refine xr_aload_n (pc := 142) 0 dX19_meets_142 rfl rfl ?_
  refine xr_iconst (pc := 143) dX19_meets_143 xci_1 ?_
  obtain ⟨ht5, hf⟩ := xo_if hf
  refine yc_putI (pc := 144) 17 4 1704 ht5 (by decide) (by decide) (by decide) rfl rfl rfl (ty := .boolean) (by decide +kernel) (by decide +kernel) (by decide +kernel) q1680 (ys_eq rfl) rfl dX19_meets_144 ?_
  rw [kr _ (Option.some.inj hf).symm]
  exact xr_vret (pc := 147) dX19_meets_147 rfl
def Jc_X19_meets_65 (g : CG) (x0 : Nat) (s0 : Int64) (s1 : Nat) (τ : CC) : Option CC :=
  if gT g s1 = 17 then
  if gT g x0 = 17 then
  some (uI (uL τ 1703 s1 s0) 1704 x0 1)
  else none
  else none
theorem ok_Jc_X19_meets_65 {D : CD} {P : CP} {K : xK} {g : CG} {Z : Option Value × CS} {x0 : Nat} {s0 : Int64} {s1 : Nat} {τ : CC} {o_ : CC} (hf : Jc_X19_meets_65 g x0 s0 s1 τ = some o_) (kr : ∀ r_ : CC, o_ = r_ → Z = (none, (g, r_))) : xV (wC D P) K mX19_meets (xQ (wC D P) K Z) (g, τ) 65 [(0, .ref x0)] [.long s0, .ref s1] := by
  unfold Jc_X19_meets_65 at hf
  obtain ⟨ht11, hf⟩ := xo_if hf
  refine yc_putL (pc := 65) 17 3 1703 ht11 (by decide) (by decide) (by decide) rfl rfl rfl (by decide +kernel) q1679 (ys_eq rfl) rfl dX19_meets_65 ?_
  refine xr_aload_n (pc := 68) 0 dX19_meets_68 rfl rfl ?_
  refine xr_iconst (pc := 69) dX19_meets_69 xci_1 ?_
  obtain ⟨ht12, hf⟩ := xo_if hf
  refine yc_putI (pc := 70) 17 4 1704 ht12 (by decide) (by decide) (by decide) rfl rfl rfl (ty := .boolean) (by decide +kernel) (by decide +kernel) (by decide +kernel) q1680 (ys_eq rfl) rfl dX19_meets_70 ?_
  rw [kr _ (Option.some.inj hf).symm]
  exact xr_vret (pc := 73) dX19_meets_73 rfl
def Jc_X19_meets_63 (g : CG) (x0 : Nat) (x1 : Int32) (s0 : Nat) (τ : CC) : Option CC :=
  Jc_X19_meets_65 g x0 x1.toInt64 s0 τ
theorem ok_Jc_X19_meets_63 {D : CD} {P : CP} {K : xK} {g : CG} {Z : Option Value × CS} {x0 : Nat} {x1 : Int32} {s0 : Nat} {τ : CC} {o_ : CC} (hf : Jc_X19_meets_63 g x0 x1 s0 τ = some o_) (kr : ∀ r_ : CC, o_ = r_ → Z = (none, (g, r_))) : xV (wC D P) K mX19_meets (xQ (wC D P) K Z) (g, τ) 63 [(0, .ref x0), (1, .int x1)] [.ref s0] := by
  unfold Jc_X19_meets_63 at hf
  refine xr_iload_n (pc := 63) 1 dX19_meets_63 rfl rfl ?_
  refine xr_i2l (pc := 64) dX19_meets_64 ?_
  refine xV_sub [0] rfl ?_
  exact ok_Jc_X19_meets_65 hf kr
def f_c_X19_meets (g : CG) (x0 : Nat) (x1 : Int32) (x2 : Nat) (τ : CC) : Option CC :=
  if gT g x0 = 17 then
  if (3 : Int32) ≤ (cI τ 1700 x0) then
  (gR g 1702 x0).bind fun b2 =>
  xbd (d_at 64 b2 x2 g τ) fun r3 τ3 =>
  if (cI τ3 1704 x0) = 0 then
  Jc_X19_meets_139 g x0 r3 x0 τ3
  else
  if (cI τ3 1700 x0) = 3 then
  Jc_X19_meets_139 g x0 ((cL τ3 1703 x0) + r3) x0 τ3
  else
  if (cI τ3 1700 x0) = 4 then
  xbd (f_c_J12_max_2 g (cL τ3 1703 x0) r3 τ3) fun r6 τ6 =>
  Jc_X19_meets_139 g x0 r6 x0 τ6
  else
  xbd (f_c_J12_min_2 g (cL τ3 1703 x0) r3 τ3) fun r7 τ7 =>
  Jc_X19_meets_139 g x0 r7 x0 τ7
  else
  (gR g 1701 x0).bind fun b8 =>
  xbd (d_ho 64 b8 x2 g τ) fun r9 τ9 =>
  if r9 = 0 then
  some (τ9)
  else
  if (cI τ9 1700 x0) = 2 then
  xbd (f_c_J12_max_2 g 0 (cL τ9 1703 x0) τ9) fun r10 τ10 =>
  Jc_X19_meets_65 g x0 (r10 + 1) x0 τ10
  else
  if (cI τ9 1700 x0) = 0 then
  if (cI τ9 1704 x0) = 0 then
  Jc_X19_meets_63 g x0 x1 x0 τ9
  else
  Jc_X19_meets_65 g x0 (cL τ9 1703 x0) x0 τ9
  else
  Jc_X19_meets_63 g x0 x1 x0 τ9
  else none
theorem ok_f_c_X19_meets {D : CD} {P : CP} {K : xK} {g : CG} {Z : Option Value × CS} {x0 : Nat} {x1 : Int32} {x2 : Nat} {τ : CC} {o_ : CC} (hf : f_c_X19_meets g x0 x1 x2 τ = some o_) (kr : ∀ r_ : CC, o_ = r_ → Z = (none, (g, r_))) : xV (wC D P) K mX19_meets (xQ (wC D P) K Z) (g, τ) 0 [(0, .ref x0), (1, .int x1), (2, .ref x2)] [] := by
  unfold f_c_X19_meets at hf
  refine xr_aload_n (pc := 0) 0 dX19_meets_0 rfl rfl ?_
  obtain ⟨ht1, hf⟩ := xo_if hf
  refine yc_getI (pc := 1) 17 0 1700 (gKo ht1 (by decide)) (by decide) (by decide) (by decide) rfl rfl q1676 (ys_eq rfl) rfl dX19_meets_1 ?_
  refine xr_iconst (pc := 4) dX19_meets_4 xci_3 ?_
  refine xr_icmp_ge (pc := 5) 74 dX19_meets_5 (by decide) (fun c_ => ?_) (fun c_ => ?_)
  · have hf := xo_pos c_ hf
    refine xr_aload_n (pc := 74) 0 dX19_meets_74 rfl rfl ?_
    obtain ⟨b2, hb2, hf⟩ := xo_bind hf
    refine yc_getFs (pc := 75) 17 2 1702 (gKo ht1 (by decide)) (by decide) (by decide) (by decide) rfl rfl hb2 q1678 (ys_eq rfl) rfl dX19_meets_75 ?_
    refine xr_aload_n (pc := 78) 2 dX19_meets_78 rfl rfl ?_
    obtain ⟨r3, τ3, hτ3, hf⟩ := xo_bd hf
    refine call_d_at_X19_45 (pc := 79) (all_at 64) hτ3 rfl (Nat.le_of_ble_eq_true rfl) (Nat.le_of_ble_eq_true rfl) (Nat.le_of_ble_eq_true rfl) dX19_meets_79 ?_
    refine xr_lstore_n (pc := 82) (loc' := [(3, .long r3), (0, .ref x0), (1, .int x1), (2, .ref x2)]) dX19_meets_82 rfl (by decide) rfl ?_
    refine xr_aload_n (pc := 83) 1 dX19_meets_83 rfl rfl ?_
    refine xr_aload_n (pc := 84) 1 dX19_meets_84 rfl rfl ?_
    refine yc_getI (pc := 85) 17 4 1704 (gKo ht1 (by decide)) (by decide) (by decide) (by decide) rfl rfl q1680 (ys_eq rfl) rfl dX19_meets_85 ?_
    refine xr_if_ne (pc := 88) 95 dX19_meets_88 (by decide) (fun c_ => ?_) (fun c_ => ?_)
    · have hf := xo_pos c_ hf
      refine xr_lload_n (pc := 91) 0 dX19_meets_91 rfl rfl ?_
      refine xr_goto (pc := 92) 139 dX19_meets_92 (by decide) ?_
      refine xV_sub [1] rfl ?_
      exact ok_Jc_X19_meets_139 hf kr
    · have hf := xo_neg c_ hf
      refine xr_aload_n (pc := 95) 1 dX19_meets_95 rfl rfl ?_
      refine yc_getI (pc := 96) 17 0 1700 (gKo ht1 (by decide)) (by decide) (by decide) (by decide) rfl rfl q1676 (ys_eq rfl) rfl dX19_meets_96 ?_
      refine xr_iconst (pc := 99) dX19_meets_99 xci_3 ?_
      refine xr_icmp_ne (pc := 100) 112 dX19_meets_100 (by decide) (fun c_ => ?_) (fun c_ => ?_)
      · have hf := xo_pos c_ hf
        refine xr_aload_n (pc := 103) 1 dX19_meets_103 rfl rfl ?_
        refine yc_getL (pc := 104) 17 3 1703 (gKo ht1 (by decide)) (by decide) (by decide) (by decide) rfl rfl q1679 (ys_eq rfl) rfl dX19_meets_104 ?_
        refine xr_lload_n (pc := 107) 0 dX19_meets_107 rfl rfl ?_
        refine xr_ladd (pc := 108) dX19_meets_108 ?_
        refine xr_goto (pc := 109) 139 dX19_meets_109 (by decide) ?_
        refine xV_sub [1] rfl ?_
        exact ok_Jc_X19_meets_139 hf kr
      · have hf := xo_neg c_ hf
        refine xr_aload_n (pc := 112) 1 dX19_meets_112 rfl rfl ?_
        refine yc_getI (pc := 113) 17 0 1700 (gKo ht1 (by decide)) (by decide) (by decide) (by decide) rfl rfl q1676 (ys_eq rfl) rfl dX19_meets_113 ?_
        refine xr_iconst (pc := 116) dX19_meets_116 xci_4 ?_
        refine xr_icmp_ne (pc := 117) 131 dX19_meets_117 (by decide) (fun c_ => ?_) (fun c_ => ?_)
        · have hf := xo_pos c_ hf
          refine xr_aload_n (pc := 120) 1 dX19_meets_120 rfl rfl ?_
          refine yc_getL (pc := 121) 17 3 1703 (gKo ht1 (by decide)) (by decide) (by decide) (by decide) rfl rfl q1679 (ys_eq rfl) rfl dX19_meets_121 ?_
          refine xr_lload_n (pc := 124) 0 dX19_meets_124 rfl rfl ?_
          obtain ⟨r6, τ6, hτ6, hf⟩ := xo_bd hf
          refine call_f_c_J12_max_2_X19_35 (pc := 125) hτ6 rfl (Nat.le_of_ble_eq_true rfl) (Nat.le_of_ble_eq_true rfl) (Nat.le_of_ble_eq_true rfl) dX19_meets_125 ?_
          refine xr_goto (pc := 128) 139 dX19_meets_128 (by decide) ?_
          refine xV_sub [1] rfl ?_
          exact ok_Jc_X19_meets_139 hf kr
        · have hf := xo_neg c_ hf
          refine xr_aload_n (pc := 131) 1 dX19_meets_131 rfl rfl ?_
          refine yc_getL (pc := 132) 17 3 1703 (gKo ht1 (by decide)) (by decide) (by decide) (by decide) rfl rfl q1679 (ys_eq rfl) rfl dX19_meets_132 ?_
          refine xr_lload_n (pc := 135) 0 dX19_meets_135 rfl rfl ?_
          obtain ⟨r7, τ7, hτ7, hf⟩ := xo_bd hf
          refine call_f_c_J12_min_2_X19_51 (pc := 136) hτ7 rfl (Nat.le_of_ble_eq_true rfl) (Nat.le_of_ble_eq_true rfl) (Nat.le_of_ble_eq_true rfl) dX19_meets_136 ?_
          refine xV_sub [1] rfl ?_
          exact ok_Jc_X19_meets_139 hf kr
  · have hf := xo_neg c_ hf
    refine xr_aload_n (pc := 8) 0 dX19_meets_8 rfl rfl ?_
    obtain ⟨b8, hb8, hf⟩ := xo_bind hf
    refine yc_getFs (pc := 9) 17 1 1701 (gKo ht1 (by decide)) (by decide) (by decide) (by decide) rfl rfl hb8 q1677 (ys_eq rfl) rfl dX19_meets_9 ?_
    refine xr_aload_n (pc := 12) 2 dX19_meets_12 rfl rfl ?_
    obtain ⟨r9, τ9, hτ9, hf⟩ := xo_bd hf
    refine call_d_ho_X19_29 (pc := 13) (all_ho 64) hτ9 rfl (Nat.le_of_ble_eq_true rfl) (Nat.le_of_ble_eq_true rfl) (Nat.le_of_ble_eq_true rfl) dX19_meets_13 ?_
    refine xr_if_ne (pc := 16) 20 dX19_meets_16 (by decide) (fun c_ => ?_) (fun c_ => ?_)
    · have hf := xo_pos c_ hf
      rw [kr _ (Option.some.inj hf).symm]
      exact xr_vret (pc := 19) dX19_meets_19 rfl
    · have hf := xo_neg c_ hf
      refine xr_aload_n (pc := 20) 0 dX19_meets_20 rfl rfl ?_
      refine xr_aload_n (pc := 21) 0 dX19_meets_21 rfl rfl ?_
      refine yc_getI (pc := 22) 17 0 1700 (gKo ht1 (by decide)) (by decide) (by decide) (by decide) rfl rfl q1676 (ys_eq rfl) rfl dX19_meets_22 ?_
      refine xr_iconst (pc := 25) dX19_meets_25 xci_2 ?_
      refine xr_icmp_ne (pc := 26) 42 dX19_meets_26 (by decide) (fun c_ => ?_) (fun c_ => ?_)
      · have hf := xo_pos c_ hf
        refine xr_lconst (pc := 29) dX19_meets_29 (by decide : _ = (0 : Int64)) ?_
        refine xr_aload_n (pc := 30) 0 dX19_meets_30 rfl rfl ?_
        refine yc_getL (pc := 31) 17 3 1703 (gKo ht1 (by decide)) (by decide) (by decide) (by decide) rfl rfl q1679 (ys_eq rfl) rfl dX19_meets_31 ?_
        obtain ⟨r10, τ10, hτ10, hf⟩ := xo_bd hf
        refine call_f_c_J12_max_2_X19_35 (pc := 34) hτ10 rfl (Nat.le_of_ble_eq_true rfl) (Nat.le_of_ble_eq_true rfl) (Nat.le_of_ble_eq_true rfl) dX19_meets_34 ?_
        refine xr_lconst (pc := 37) dX19_meets_37 (by decide : _ = (1 : Int64)) ?_
        refine xr_ladd (pc := 38) dX19_meets_38 ?_
        refine xr_goto (pc := 39) 65 dX19_meets_39 (by decide) ?_
        refine xV_sub [0] rfl ?_
        exact ok_Jc_X19_meets_65 hf kr
      · have hf := xo_neg c_ hf
        refine xr_aload_n (pc := 42) 0 dX19_meets_42 rfl rfl ?_
        refine yc_getI (pc := 43) 17 0 1700 (gKo ht1 (by decide)) (by decide) (by decide) (by decide) rfl rfl q1676 (ys_eq rfl) rfl dX19_meets_43 ?_
        refine xr_if_ne (pc := 46) 63 dX19_meets_46 (by decide) (fun c_ => ?_) (fun c_ => ?_)
        · have hf := xo_pos c_ hf
          refine xr_aload_n (pc := 49) 0 dX19_meets_49 rfl rfl ?_
          refine yc_getI (pc := 50) 17 4 1704 (gKo ht1 (by decide)) (by decide) (by decide) (by decide) rfl rfl q1680 (ys_eq rfl) rfl dX19_meets_50 ?_
          refine xr_if_eq (pc := 53) 63 dX19_meets_53 (by decide) (fun c_ => ?_) (fun c_ => ?_)
          · have hf := xo_pos c_ hf
            refine xV_sub [0, 1] rfl ?_
            exact ok_Jc_X19_meets_63 hf kr
          · have hf := xo_neg c_ hf
            refine xr_aload_n (pc := 56) 0 dX19_meets_56 rfl rfl ?_
            refine yc_getL (pc := 57) 17 3 1703 (gKo ht1 (by decide)) (by decide) (by decide) (by decide) rfl rfl q1679 (ys_eq rfl) rfl dX19_meets_57 ?_
            refine xr_goto (pc := 60) 65 dX19_meets_60 (by decide) ?_
            refine xV_sub [0] rfl ?_
            exact ok_Jc_X19_meets_65 hf kr
        · have hf := xo_neg c_ hf
          refine xV_sub [0, 1] rfl ?_
          exact ok_Jc_X19_meets_63 hf kr
theorem met_f_c_X19_meets (l : Launch) {D : CD} {P : CP} {g : CG} {x0 : Nat} {x1 : Int32} {x2 : Nat} {τ : CC} {o_ : CC} (hf : f_c_X19_meets g x0 x1 x2 τ = some o_) : xMet (wC D P) l yX19_meets (ws_ yX19_meets cX19_meets 5 none) 78 4680 (grc g) (grs g) [.ref x0, .int x1, .ref x2] (g, τ) (none, (g, o_)) := 
  xMet_of (by decide) (Nat.le_of_ble_eq_true rfl) KC_moved RPC_of (fun K _ _ _ => ok_f_c_X19_meets hf (fun _ h => by rw [h]))
abbrev mX19_answer : xM := (cX19_answer, 1, RX19, 0, 0, (some .long), "answer")
def Jc_X19_answer_15 (g : CG) (x0 : Nat) (τ : CC) : Option (Int64 × CC) :=
  if gT g x0 = 17 then
  some ((cL τ 1703 x0, τ))
  else none
theorem ok_Jc_X19_answer_15 {D : CD} {P : CP} {K : xK} {g : CG} {Z : Option Value × CS} {x0 : Nat} {τ : CC} {o_ : (Int64 × CC)} (hf : Jc_X19_answer_15 g x0 τ = some o_) (kr : ∀ r_ : (Int64 × CC), o_ = r_ → Z = (some (.long r_.1), (g, r_.2))) : xV (wC D P) K mX19_answer (xQ (wC D P) K Z) (g, τ) 15 [(0, .ref x0)] [] := by
  unfold Jc_X19_answer_15 at hf
  refine xr_aload_n (pc := 15) 0 dX19_answer_15 rfl rfl ?_
  obtain ⟨ht2, hf⟩ := xo_if hf
  refine yc_getL (pc := 16) 17 3 1703 (gKo ht2 (by decide)) (by decide) (by decide) (by decide) rfl rfl q1679 (ys_eq rfl) rfl dX19_answer_16 ?_
  refine xr_goto (pc := 19) 23 dX19_answer_19 (by decide) ?_
  rw [kr _ (Option.some.inj hf).symm]
  exact xr_lret (pc := 23) dX19_answer_23 rfl
def f_c_X19_answer (g : CG) (x0 : Nat) (τ : CC) : Option (Int64 × CC) :=
  if gT g x0 = 17 then
  if (cI τ 1704 x0) = 0 then
  if (2 : Int32) ≤ (cI τ 1700 x0) then
  some ((0, τ))
  else
  Jc_X19_answer_15 g x0 τ
  else
  Jc_X19_answer_15 g x0 τ
  else none
theorem ok_f_c_X19_answer {D : CD} {P : CP} {K : xK} {g : CG} {Z : Option Value × CS} {x0 : Nat} {τ : CC} {o_ : (Int64 × CC)} (hf : f_c_X19_answer g x0 τ = some o_) (kr : ∀ r_ : (Int64 × CC), o_ = r_ → Z = (some (.long r_.1), (g, r_.2))) : xV (wC D P) K mX19_answer (xQ (wC D P) K Z) (g, τ) 0 [(0, .ref x0)] [] := by
  unfold f_c_X19_answer at hf
  refine xr_aload_n (pc := 0) 0 dX19_answer_0 rfl rfl ?_
  obtain ⟨ht1, hf⟩ := xo_if hf
  refine yc_getI (pc := 1) 17 4 1704 (gKo ht1 (by decide)) (by decide) (by decide) (by decide) rfl rfl q1680 (ys_eq rfl) rfl dX19_answer_1 ?_
  refine xr_if_ne (pc := 4) 15 dX19_answer_4 (by decide) (fun c_ => ?_) (fun c_ => ?_)
  · have hf := xo_pos c_ hf
    refine xr_aload_n (pc := 7) 0 dX19_answer_7 rfl rfl ?_
    refine yc_getI (pc := 8) 17 0 1700 (gKo ht1 (by decide)) (by decide) (by decide) (by decide) rfl rfl q1676 (ys_eq rfl) rfl dX19_answer_8 ?_
    refine xr_iconst (pc := 11) dX19_answer_11 xci_2 ?_
    refine xr_icmp_ge (pc := 12) 22 dX19_answer_12 (by decide) (fun c_ => ?_) (fun c_ => ?_)
    · have hf := xo_pos c_ hf
      refine xr_lconst (pc := 22) dX19_answer_22 (by decide : _ = (0 : Int64)) ?_
      rw [kr _ (Option.some.inj hf).symm]
      exact xr_lret (pc := 23) dX19_answer_23 rfl
    · have hf := xo_neg c_ hf
      exact ok_Jc_X19_answer_15 hf kr
  · have hf := xo_neg c_ hf
    exact ok_Jc_X19_answer_15 hf kr
theorem met_f_c_X19_answer (l : Launch) {D : CD} {P : CP} {g : CG} {x0 : Nat} {τ : CC} {o_ : (Int64 × CC)} (hf : f_c_X19_answer g x0 τ = some o_) : xMet (wC D P) l yX19_answer (ws_ yX19_answer cX19_answer 1 (some .long)) 0 0 (grc g) (grs g) [.ref x0] (g, τ) (some (.long o_.1), (g, o_.2)) := 
  xMet_of (by decide) (Nat.le_of_ble_eq_true rfl) KC_moved RPC_of (fun K _ _ _ => ok_f_c_X19_answer hf (fun _ h => by rw [h]))
