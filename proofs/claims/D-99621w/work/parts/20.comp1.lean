set_option maxRecDepth 100000
theorem call_f_c_X0_turnOf_X0_191 {D : CD} {P : CP} {K : xK} {M : xM} {Q : State → Prop} {g : CG} {c : CC} {x0 : Nat} {x1 : Int32} {x2 : Int32} {x3 : Int32} {x4 : Int32} {pc : Nat} {loc : List (Nat × Value)} {st : List Value} {r : Int32} {c1 : CC} (hf : f_c_X0_turnOf g x0 x1 x2 x3 x4 c = some (r, c1)) (hr : gK g x0 = 1) (ho : M.2.2.1 = RX0) (hfr : 2 ≤ M.2.2.2.1) (hlo : 84 ≤ M.2.2.2.2.1) (hcat : (st.map fun v => v.category).sum ≤ 8) (d : decode M.1 pc = .ok (.invokevirtual 191, 3)) (k : xV (wC D P) K M Q (g, c1) (pc + 3) loc (.int r :: st)) : xV (wC D P) K M Q (g, c) pc loc (.int x4 :: .int x3 :: .int x2 :: .int x1 :: .ref x0 :: st) :=
  yc_callV (As := [.int x1, .int x2, .int x3, .int x4]) (rest := st) (met_f_c_X0_turnOf K.2.1 hf) (lw_V q1296 q1298 qs38 q174 q1299) ⟨rfl, hd_f_c_X0_turnOf⟩ ho hfr hlo rfl hr (by decide) (by decide) rfl rfl hcat d k
theorem call_d_ho_X0_203 {D : CD} {P : CP} {K : xK} {M : xM} {Q : State → Prop} {g : CG} {c : CC} {a m d_ : Nat} {f_ : Nat → Nat → CG → CC → Option (Int32 × CC)} {pc : Nat} {loc : List (Nat × Value)} {st : List Value} {r : Int32} {c1 : CC} (H : DHO D P d_ f_) (hf : f_ a m g c = some (r, c1)) (ho : M.2.2.1 = RX0) (hfr : 12 + d_ + 1 ≤ M.2.2.2.1) (hlo : 60 * (12 + d_) + 60 ≤ M.2.2.2.2.1) (hcat : (st.map fun v => v.category).sum ≤ 8) (d : decode M.1 pc = .ok (.invokevirtual 203, 3)) (k : xV (wC D P) K M Q (g, c1) (pc + 3) loc (.int r :: st)) : xV (wC D P) K M Q (g, c) pc loc (.ref m :: .ref a :: st) := by
  rcases H K.2.1 a m g c r c1 hf with ⟨ht, hM⟩ | ⟨ht, hM⟩ | ⟨ht, hM⟩ | ⟨ht, hM⟩
  · exact yc_callA (n := 1) (As := [.ref m]) (rest := st) (z := ⟨"BentRiver$Test", "holds", "(LBentRiver$Moment;)Z"⟩) hM (lw_2 q1303 q1305 (lw_2 q1306 q1307 (lw_1 q208 (lw_meth q1308)))) q1304 (by decide +kernel) ho hfr (by omega) rfl ht (by decide) (by decide) rfl rfl hcat d k
  · exact yc_callA (n := 1) (As := [.ref m]) (rest := st) (z := ⟨"BentRiver$Test", "holds", "(LBentRiver$Moment;)Z"⟩) hM (lw_2 q1303 q1305 (lw_2 q1389 q1321 (lw_1 q209 (lw_meth q1322)))) q1304 (by decide +kernel) ho hfr (by omega) rfl ht (by decide) (by decide) rfl rfl hcat d k
  · exact yc_callA (n := 1) (As := [.ref m]) (rest := st) (z := ⟨"BentRiver$Test", "holds", "(LBentRiver$Moment;)Z"⟩) hM (lw_2 q1303 q1305 (lw_2 q1388 q1318 (lw_1 q207 (lw_meth q1319)))) q1304 (by decide +kernel) ho hfr (by omega) rfl ht (by decide) (by decide) rfl rfl hcat d k
  · exact yc_callA (n := 1) (As := [.ref m]) (rest := st) (z := ⟨"BentRiver$Test", "holds", "(LBentRiver$Moment;)Z"⟩) hM (lw_2 q1303 q1305 (lw_2 q1309 q1310 (lw_1 q206 (lw_meth q1311)))) q1304 (by decide +kernel) ho hfr (by omega) rfl ht (by decide) (by decide) rfl rfl hcat d k
abbrev mX0_isBendBy : xM := (cX0_isBendBy, 7, RX0, 78, 4680, (some .boolean), "isBendBy")
def f_c_X0_isBendBy (g : CG) (x0 : Nat) (x1 : Int32) (x2 : Int32) (x3 : Int32) (x4 : Int32) (x5 : Int32) (τ : CC) : Option (Int32 × CC) :=
  if gT g x0 = 1 then
  xbd (f_c_X0_turnOf g x0 x1 x2 x3 x4 τ) fun r2 τ2 =>
  (cR τ2 100 x0).bind fun b3 =>
  if gT g b3 = 2 then
  if (cR τ2 210 b3) = none then
  if r2 ≤ 0 then
  some ((0, τ2))
  else
  some ((1, τ2))
  else
  (gR g 106 x0).bind fun b5 =>
  if gT g b5 = 5 then
  (gR g 500 b5).bind fun b7 =>
  if gT g b7 = 101 then
  if xin 0 (gN g b7) = true then
  if xin 1 (gN g b7) = true then
  if xin 2 (gN g b7) = true then
  if xin 3 (gN g b7) = true then
  if xin 8 (gN g b7) = true then
  if xin 9 (gN g b7) = true then
  (cR (uM (uM (uM (uM (uM (uM τ2 b7 (0 : Int32).toNatClampNeg x1.toInt64) b7 (1 : Int32).toNatClampNeg x3.toInt64) b7 (2 : Int32).toNatClampNeg r2.toInt64) b7 (3 : Int32).toNatClampNeg x5.toInt64) b7 (8 : Int32).toNatClampNeg x2.toInt64) b7 (9 : Int32).toNatClampNeg x4.toInt64) 100 x0).bind fun b9 =>
  if gT g b9 = 2 then
  (cR (uM (uM (uM (uM (uM (uM τ2 b7 (0 : Int32).toNatClampNeg x1.toInt64) b7 (1 : Int32).toNatClampNeg x3.toInt64) b7 (2 : Int32).toNatClampNeg r2.toInt64) b7 (3 : Int32).toNatClampNeg x5.toInt64) b7 (8 : Int32).toNatClampNeg x2.toInt64) b7 (9 : Int32).toNatClampNeg x4.toInt64) 210 b9).bind fun b11 =>
  xbd (d_ho 64 b11 b5 g (uM (uM (uM (uM (uM (uM τ2 b7 (0 : Int32).toNatClampNeg x1.toInt64) b7 (1 : Int32).toNatClampNeg x3.toInt64) b7 (2 : Int32).toNatClampNeg r2.toInt64) b7 (3 : Int32).toNatClampNeg x5.toInt64) b7 (8 : Int32).toNatClampNeg x2.toInt64) b7 (9 : Int32).toNatClampNeg x4.toInt64)) fun r12 τ12 =>
  some ((r12 &&& 1, τ12))
  else none
  else none
  else none
  else none
  else none
  else none
  else none
  else none
  else none
  else none
  else none
theorem ok_f_c_X0_isBendBy {D : CD} {P : CP} {K : xK} {g : CG} {Z : Option Value × CS} {x0 : Nat} {x1 : Int32} {x2 : Int32} {x3 : Int32} {x4 : Int32} {x5 : Int32} {τ : CC} {o_ : (Int32 × CC)} (hf : f_c_X0_isBendBy g x0 x1 x2 x3 x4 x5 τ = some o_) (kr : ∀ r_ : (Int32 × CC), o_ = r_ → Z = (some (.int r_.1), (g, r_.2))) : xV (wC D P) K mX0_isBendBy (xQ (wC D P) K Z) (g, τ) 0 [(0, .ref x0), (1, .int x1), (2, .int x2), (3, .int x3), (4, .int x4), (5, .int x5)] [] := by
  unfold f_c_X0_isBendBy at hf
  refine xr_aload_n (pc := 0) 0 dX0_isBendBy_0 rfl rfl ?_
  refine xr_iload_n (pc := 1) 1 dX0_isBendBy_1 rfl rfl ?_
  refine xr_iload_n (pc := 2) 2 dX0_isBendBy_2 rfl rfl ?_
  refine xr_iload_n (pc := 3) 3 dX0_isBendBy_3 rfl rfl ?_
  refine xr_iload (pc := 4) 4 dX0_isBendBy_4 rfl ?_
  obtain ⟨ht1, hf⟩ := xo_if hf
  obtain ⟨r2, τ2, hτ2, hf⟩ := xo_bd hf
  refine call_f_c_X0_turnOf_X0_191 (pc := 6) hτ2 (gKo ht1 (by decide)) rfl (Nat.le_of_ble_eq_true rfl) (Nat.le_of_ble_eq_true rfl) (Nat.le_of_ble_eq_true rfl) dX0_isBendBy_6 ?_
  refine xr_istore (pc := 9) (loc' := [(6, .int r2), (0, .ref x0), (1, .int x1), (2, .int x2), (3, .int x3), (4, .int x4), (5, .int x5)]) dX0_isBendBy_9 (by decide) rfl ?_
  refine xr_aload_n (pc := 11) 1 dX0_isBendBy_11 rfl rfl ?_
  obtain ⟨b3, hb3, hf⟩ := xo_bind hf
  refine yc_getRs (pc := 12) 1 0 100 (gKo ht1 (by decide)) (by decide) (by decide) (by decide) rfl rfl hb3 q484 (ys_eq rfl) rfl dX0_isBendBy_12 ?_
  obtain ⟨ht4, hf⟩ := xo_if hf
  refine yc_getRN (pc := 15) 2 10 210 (gKo ht4 (by decide)) (by decide) (by decide) (by decide) rfl rfl q285 (ys_eq rfl) rfl dX0_isBendBy_15 ?_
  refine xr_ifnonnull (pc := 18) 32 dX0_isBendBy_18 (by decide) (fun c_ => ?_) (fun c_ => ?_)
  · have hf := xo_pos c_ hf
    refine xr_iload (pc := 21) 0 dX0_isBendBy_21 rfl ?_
    refine xr_if_le (pc := 23) 30 dX0_isBendBy_23 (by decide) (fun c_ => ?_) (fun c_ => ?_)
    · have hf := xo_pos c_ hf
      refine xr_iconst (pc := 30) dX0_isBendBy_30 xci_0 ?_
      rw [kr _ (Option.some.inj hf).symm]
      exact xr_zret (pc := 31) dX0_isBendBy_31 rfl xz_0
    · have hf := xo_neg c_ hf
      refine xr_iconst (pc := 26) dX0_isBendBy_26 xci_1 ?_
      refine xr_goto (pc := 27) 31 dX0_isBendBy_27 (by decide) ?_
      rw [kr _ (Option.some.inj hf).symm]
      exact xr_zret (pc := 31) dX0_isBendBy_31 rfl xz_1
  · have hf := xo_neg c_ hf
    refine xr_aload_n (pc := 32) 1 dX0_isBendBy_32 rfl rfl ?_
    obtain ⟨b5, hb5, hf⟩ := xo_bind hf
    refine yc_getFs (pc := 33) 1 6 106 (gKo ht1 (by decide)) (by decide) (by decide) (by decide) rfl rfl hb5 q491 (ys_eq rfl) rfl dX0_isBendBy_33 ?_
    obtain ⟨ht6, hf⟩ := xo_if hf
    obtain ⟨b7, hb7, hf⟩ := xo_bind hf
    refine yc_getFsN (pc := 36) 5 0 500 (gKo ht6 (by decide)) (by decide) (by decide) (by decide) rfl rfl hb7 q422 (ys_eq rfl) rfl dX0_isBendBy_36 ?_
    refine xr_iconst (pc := 39) dX0_isBendBy_39 xci_0 ?_
    refine xr_iload_n (pc := 40) 2 dX0_isBendBy_40 rfl rfl ?_
    refine xr_i2l (pc := 41) dX0_isBendBy_41 ?_
    obtain ⟨ht8, hf⟩ := xo_if hf
    obtain ⟨hi_, hf⟩ := xo_if hf
    refine yc_last (pc := 42) ht8 hi_ dX0_isBendBy_42 ?_
    refine xr_aload_n (pc := 43) 1 dX0_isBendBy_43 rfl rfl ?_
    refine yc_getFs (pc := 44) 1 6 106 (gKo ht1 (by decide)) (by decide) (by decide) (by decide) rfl rfl hb5 q491 (ys_eq rfl) rfl dX0_isBendBy_44 ?_
    refine yc_getFsN (pc := 47) 5 0 500 (gKo ht6 (by decide)) (by decide) (by decide) (by decide) rfl rfl hb7 q422 (ys_eq rfl) rfl dX0_isBendBy_47 ?_
    refine xr_iconst (pc := 50) dX0_isBendBy_50 xci_1 ?_
    refine xr_iload_n (pc := 51) 4 dX0_isBendBy_51 rfl rfl ?_
    refine xr_i2l (pc := 52) dX0_isBendBy_52 ?_
    obtain ⟨hi_, hf⟩ := xo_if hf
    refine yc_last (pc := 53) ht8 hi_ dX0_isBendBy_53 ?_
    refine xr_aload_n (pc := 54) 1 dX0_isBendBy_54 rfl rfl ?_
    refine yc_getFs (pc := 55) 1 6 106 (gKo ht1 (by decide)) (by decide) (by decide) (by decide) rfl rfl hb5 q491 (ys_eq rfl) rfl dX0_isBendBy_55 ?_
    refine yc_getFsN (pc := 58) 5 0 500 (gKo ht6 (by decide)) (by decide) (by decide) (by decide) rfl rfl hb7 q422 (ys_eq rfl) rfl dX0_isBendBy_58 ?_
    refine xr_iconst (pc := 61) dX0_isBendBy_61 xci_2 ?_
    refine xr_iload (pc := 62) 0 dX0_isBendBy_62 rfl ?_
    refine xr_i2l (pc := 64) dX0_isBendBy_64 ?_
    obtain ⟨hi_, hf⟩ := xo_if hf
    refine yc_last (pc := 65) ht8 hi_ dX0_isBendBy_65 ?_
    refine xr_aload_n (pc := 66) 1 dX0_isBendBy_66 rfl rfl ?_
    refine yc_getFs (pc := 67) 1 6 106 (gKo ht1 (by decide)) (by decide) (by decide) (by decide) rfl rfl hb5 q491 (ys_eq rfl) rfl dX0_isBendBy_67 ?_
    refine yc_getFsN (pc := 70) 5 0 500 (gKo ht6 (by decide)) (by decide) (by decide) (by decide) rfl rfl hb7 q422 (ys_eq rfl) rfl dX0_isBendBy_70 ?_
    refine xr_iconst (pc := 73) dX0_isBendBy_73 xci_3 ?_
    refine xr_iload (pc := 74) 6 dX0_isBendBy_74 rfl ?_
    refine xr_i2l (pc := 76) dX0_isBendBy_76 ?_
    obtain ⟨hi_, hf⟩ := xo_if hf
    refine yc_last (pc := 77) ht8 hi_ dX0_isBendBy_77 ?_
    refine xr_aload_n (pc := 78) 1 dX0_isBendBy_78 rfl rfl ?_
    refine yc_getFs (pc := 79) 1 6 106 (gKo ht1 (by decide)) (by decide) (by decide) (by decide) rfl rfl hb5 q491 (ys_eq rfl) rfl dX0_isBendBy_79 ?_
    refine yc_getFsN (pc := 82) 5 0 500 (gKo ht6 (by decide)) (by decide) (by decide) (by decide) rfl rfl hb7 q422 (ys_eq rfl) rfl dX0_isBendBy_82 ?_
    refine xr_bipush (pc := 85) dX0_isBendBy_85 xcb_8 ?_
    refine xr_iload_n (pc := 87) 3 dX0_isBendBy_87 rfl rfl ?_
    refine xr_i2l (pc := 88) dX0_isBendBy_88 ?_
    obtain ⟨hi_, hf⟩ := xo_if hf
    refine yc_last (pc := 89) ht8 hi_ dX0_isBendBy_89 ?_
    refine xr_aload_n (pc := 90) 1 dX0_isBendBy_90 rfl rfl ?_
    refine yc_getFs (pc := 91) 1 6 106 (gKo ht1 (by decide)) (by decide) (by decide) (by decide) rfl rfl hb5 q491 (ys_eq rfl) rfl dX0_isBendBy_91 ?_
    refine yc_getFsN (pc := 94) 5 0 500 (gKo ht6 (by decide)) (by decide) (by decide) (by decide) rfl rfl hb7 q422 (ys_eq rfl) rfl dX0_isBendBy_94 ?_
    refine xr_bipush (pc := 97) dX0_isBendBy_97 xcb_9 ?_
    refine xr_iload (pc := 99) 5 dX0_isBendBy_99 rfl ?_
    refine xr_i2l (pc := 101) dX0_isBendBy_101 ?_
    obtain ⟨hi_, hf⟩ := xo_if hf
    refine yc_last (pc := 102) ht8 hi_ dX0_isBendBy_102 ?_
    refine xr_aload_n (pc := 103) 1 dX0_isBendBy_103 rfl rfl ?_
    obtain ⟨b9, hb9, hf⟩ := xo_bind hf
    refine yc_getRs (pc := 104) 1 0 100 (gKo ht1 (by decide)) (by decide) (by decide) (by decide) rfl rfl hb9 q484 (ys_eq rfl) rfl dX0_isBendBy_104 ?_
    obtain ⟨ht10, hf⟩ := xo_if hf
    refine yc_getRN (pc := 107) 2 10 210 (gKo ht10 (by decide)) (by decide) (by decide) (by decide) rfl rfl q285 (ys_eq rfl) rfl dX0_isBendBy_107 ?_
    refine xr_aload_n (pc := 110) 1 dX0_isBendBy_110 rfl rfl ?_
    refine yc_getFs (pc := 111) 1 6 106 (gKo ht1 (by decide)) (by decide) (by decide) (by decide) rfl rfl hb5 q491 (ys_eq rfl) rfl dX0_isBendBy_111 ?_
    obtain ⟨b11, hb11, hf⟩ := xo_bind hf
    rw [hb11]; change xV _ _ _ _ _ _ _ [.ref b5, .ref b11]
    obtain ⟨r12, τ12, hτ12, hf⟩ := xo_bd hf
    refine call_d_ho_X0_203 (pc := 114) (all_ho 64) hτ12 rfl (Nat.le_of_ble_eq_true rfl) (Nat.le_of_ble_eq_true rfl) (Nat.le_of_ble_eq_true rfl) dX0_isBendBy_114 ?_
    rw [kr _ (Option.some.inj hf).symm]
    exact xr_zret (pc := 117) dX0_isBendBy_117 rfl rfl
theorem met_f_c_X0_isBendBy (l : Launch) {D : CD} {P : CP} {g : CG} {x0 : Nat} {x1 : Int32} {x2 : Int32} {x3 : Int32} {x4 : Int32} {x5 : Int32} {τ : CC} {o_ : (Int32 × CC)} (hf : f_c_X0_isBendBy g x0 x1 x2 x3 x4 x5 τ = some o_) : xMet (wC D P) l yX0_isBendBy (ws_ yX0_isBendBy cX0_isBendBy 7 (some .boolean)) 78 4680 (grc g) (grs g) [.ref x0, .int x1, .int x2, .int x3, .int x4, .int x5] (g, τ) (some (.int o_.1), (g, o_.2)) := 
  xMet_of (by decide) (Nat.le_of_ble_eq_true rfl) KC_moved RPC_of (fun K _ _ _ => ok_f_c_X0_isBendBy hf (fun _ h => by rw [h]))
theorem hd_f_c_X0_isBendBy : yX0_isBendBy.cls ≠ "java/lang/invoke/MethodHandle" ∧ yX0_isBendBy.cls ≠ "java/lang/invoke/VarHandle" ∧ (parseMethodDescriptor yX0_isBendBy.desc).map (fun d => d.parameters.length) = some 5 := by decide +kernel
theorem call_f_c_X0_isBendBy_X5_134 {D : CD} {P : CP} {K : xK} {M : xM} {Q : State → Prop} {g : CG} {c : CC} {x0 : Nat} {x1 : Int32} {x2 : Int32} {x3 : Int32} {x4 : Int32} {x5 : Int32} {pc : Nat} {loc : List (Nat × Value)} {st : List Value} {r : Int32} {c1 : CC} (hf : f_c_X0_isBendBy g x0 x1 x2 x3 x4 x5 c = some (r, c1)) (hr : gK g x0 = 1) (ho : M.2.2.1 = RX5) (hfr : 79 ≤ M.2.2.2.1) (hlo : 4706 ≤ M.2.2.2.2.1) (hcat : (st.map fun v => v.category).sum ≤ 8) (d : decode M.1 pc = .ok (.invokevirtual 134, 3)) (k : xV (wC D P) K M Q (g, c1) (pc + 3) loc (.int r :: st)) : xV (wC D P) K M Q (g, c) pc loc (.int x5 :: .int x4 :: .int x3 :: .int x2 :: .int x1 :: .ref x0 :: st) :=
  yc_callVN (As := [.int x1, .int x2, .int x3, .int x4, .int x5]) (rest := st) (met_f_c_X0_isBendBy K.2.1 hf) (lw_meth q1295) q1292 q1294 qs37 q174 ⟨rfl, hd_f_c_X0_isBendBy⟩ ho hfr hlo rfl hr (by decide) (by decide) rfl rfl hcat d k
abbrev mX5_isBend : xM := (cX5_isBend, 2, RX5, 79, 4740, (some .boolean), "isBend")
def f_c_X5_isBend (g : CG) (x0 : Nat) (x1 : Int32) (τ : CC) : Option (Int32 × CC) :=
  if gT g x0 = 6 then
  (gR g 610 x0).bind fun b2 =>
  xbd (f_c_X5_before g x0 x1 τ) fun r3 τ3 =>
  (gR g 603 x0).bind fun b4 =>
  if gT g b4 = 100 then
  if xin x1 (gN g b4) = true then
  xbd (f_c_X5_behind g x0 x1 τ3) fun r6 τ6 =>
  if gT g b2 = 1 then
  xbd (f_c_X0_isBendBy g b2 x1 r3 (cA τ3 b4 x1.toNatClampNeg) r6 (cI τ6 600 x0) τ6) fun r8 τ8 =>
  some ((r8 &&& 1, τ8))
  else none
  else none
  else none
  else none
theorem ok_f_c_X5_isBend {D : CD} {P : CP} {K : xK} {g : CG} {Z : Option Value × CS} {x0 : Nat} {x1 : Int32} {τ : CC} {o_ : (Int32 × CC)} (hf : f_c_X5_isBend g x0 x1 τ = some o_) (kr : ∀ r_ : (Int32 × CC), o_ = r_ → Z = (some (.int r_.1), (g, r_.2))) : xV (wC D P) K mX5_isBend (xQ (wC D P) K Z) (g, τ) 0 [(0, .ref x0), (1, .int x1)] [] := by
  unfold f_c_X5_isBend at hf
  refine xr_aload_n (pc := 0) 0 dX5_isBend_0 rfl rfl ?_
  obtain ⟨ht1, hf⟩ := xo_if hf
  obtain ⟨b2, hb2, hf⟩ := xo_bind hf
  refine yc_getFs (pc := 1) 6 10 610 (gKo ht1 (by decide)) (by decide) (by decide) (by decide) rfl rfl hb2 q454 (ys_eq rfl) rfl dX5_isBend_1 ?_
  refine xr_iload_n (pc := 4) 1 dX5_isBend_4 rfl rfl ?_
  refine xr_aload_n (pc := 5) 0 dX5_isBend_5 rfl rfl ?_
  refine xr_iload_n (pc := 6) 1 dX5_isBend_6 rfl rfl ?_
  obtain ⟨r3, τ3, hτ3, hf⟩ := xo_bd hf
  refine call_f_c_X5_before_X5_84 (pc := 7) hτ3 (gKo ht1 (by decide)) rfl (Nat.le_of_ble_eq_true rfl) (Nat.le_of_ble_eq_true rfl) (Nat.le_of_ble_eq_true rfl) dX5_isBend_7 ?_
  refine xr_aload_n (pc := 10) 0 dX5_isBend_10 rfl rfl ?_
  obtain ⟨b4, hb4, hf⟩ := xo_bind hf
  refine yc_getFs (pc := 11) 6 3 603 (gKo ht1 (by decide)) (by decide) (by decide) (by decide) rfl rfl hb4 q440 (ys_eq rfl) rfl dX5_isBend_11 ?_
  refine xr_iload_n (pc := 14) 1 dX5_isBend_14 rfl rfl ?_
  obtain ⟨ht5, hf⟩ := xo_if hf
  obtain ⟨hi_, hf⟩ := xo_if hf
  refine yc_iald (pc := 15) (gKo ht5 (by decide)) hi_ dX5_isBend_15 ?_
  refine xr_aload_n (pc := 16) 0 dX5_isBend_16 rfl rfl ?_
  refine xr_iload_n (pc := 17) 1 dX5_isBend_17 rfl rfl ?_
  obtain ⟨r6, τ6, hτ6, hf⟩ := xo_bd hf
  refine call_f_c_X5_behind_X5_88 (pc := 18) hτ6 (gKo ht1 (by decide)) rfl (Nat.le_of_ble_eq_true rfl) (Nat.le_of_ble_eq_true rfl) (Nat.le_of_ble_eq_true rfl) dX5_isBend_18 ?_
  refine xr_aload_n (pc := 21) 0 dX5_isBend_21 rfl rfl ?_
  refine yc_getI (pc := 22) 6 0 600 (gKo ht1 (by decide)) (by decide) (by decide) (by decide) rfl rfl q434 (ys_eq rfl) rfl dX5_isBend_22 ?_
  obtain ⟨ht7, hf⟩ := xo_if hf
  obtain ⟨r8, τ8, hτ8, hf⟩ := xo_bd hf
  refine call_f_c_X0_isBendBy_X5_134 (pc := 25) hτ8 (gKo ht7 (by decide)) rfl (Nat.le_of_ble_eq_true rfl) (Nat.le_of_ble_eq_true rfl) (Nat.le_of_ble_eq_true rfl) dX5_isBend_25 ?_
  rw [kr _ (Option.some.inj hf).symm]
  exact xr_zret (pc := 28) dX5_isBend_28 rfl rfl
theorem met_f_c_X5_isBend (l : Launch) {D : CD} {P : CP} {g : CG} {x0 : Nat} {x1 : Int32} {τ : CC} {o_ : (Int32 × CC)} (hf : f_c_X5_isBend g x0 x1 τ = some o_) : xMet (wC D P) l yX5_isBend (ws_ yX5_isBend cX5_isBend 2 (some .boolean)) 79 4740 (grc g) (grs g) [.ref x0, .int x1] (g, τ) (some (.int o_.1), (g, o_.2)) := 
  xMet_of (by decide) (Nat.le_of_ble_eq_true rfl) KC_moved RPC_of (fun K _ _ _ => ok_f_c_X5_isBend hf (fun _ h => by rw [h]))
theorem hd_f_c_X5_isBend : yX5_isBend.cls ≠ "java/lang/invoke/MethodHandle" ∧ yX5_isBend.cls ≠ "java/lang/invoke/VarHandle" ∧ (parseMethodDescriptor yX5_isBend.desc).map (fun d => d.parameters.length) = some 1 := by decide +kernel
theorem call_f_c_X5_isBend_X5_138 {D : CD} {P : CP} {K : xK} {M : xM} {Q : State → Prop} {g : CG} {c : CC} {x0 : Nat} {x1 : Int32} {pc : Nat} {loc : List (Nat × Value)} {st : List Value} {r : Int32} {c1 : CC} (hf : f_c_X5_isBend g x0 x1 c = some (r, c1)) (hr : gK g x0 = 6) (ho : M.2.2.1 = RX5) (hfr : 80 ≤ M.2.2.2.1) (hlo : 4761 ≤ M.2.2.2.2.1) (hcat : (st.map fun v => v.category).sum ≤ 8) (d : decode M.1 pc = .ok (.invokevirtual 138, 3)) (k : xV (wC D P) K M Q (g, c1) (pc + 3) loc (.int r :: st)) : xV (wC D P) K M Q (g, c) pc loc (.int x1 :: .ref x0 :: st) :=
  yc_callV (As := [.int x1]) (rest := st) (met_f_c_X5_isBend K.2.1 hf) (lw_V q1278 q1279 q1280 q185 q1281) ⟨rfl, hd_f_c_X5_isBend⟩ ho hfr hlo rfl hr (by decide) (by decide) rfl rfl hcat d k
abbrev mX5_bends : xM := (cX5_bends, 3, RX5, 80, 4800, (some .int), "bends")
def Jc_X5_bends_29 (g : CG) (x0 : Nat) (x2 : Int32) (s0 : Int32) (s1 : Int32) (τ : CC) : Option ((Int32 × Int32 × CC) ⊕ ((Int32 × CC))) :=
  some (.inl (s1 + s0, x2 + 1, τ))
theorem ok_Jc_X5_bends_29 {D : CD} {P : CP} {K : xK} {g : CG} {Z : Option Value × CS} {x0 : Nat} {x2 : Int32} {s0 : Int32} {s1 : Int32} {τ : CC} {o_ : ((Int32 × Int32 × CC) ⊕ ((Int32 × CC)))} (hf : Jc_X5_bends_29 g x0 x2 s0 s1 τ = some o_) (kc : ∀ s_ : Int32 × Int32 × CC, o_ = .inl s_ → xV (wC D P) K mX5_bends (xQ (wC D P) K Z) (g, s_.2.2) 4 [(0, .ref x0), (1, .int s_.1), (2, .int s_.2.1)] []) (ke0 : ∀ e_ : Int32 × CC, o_ = .inr e_ → xV (wC D P) K mX5_bends (xQ (wC D P) K Z) (g, e_.2) 37 [(1, .int e_.1)] []) : xV (wC D P) K mX5_bends (xQ (wC D P) K Z) (g, τ) 29 [(0, .ref x0), (2, .int x2)] [.int s0, .int s1] := by
  unfold Jc_X5_bends_29 at hf
  refine xr_iadd (pc := 29) dX5_bends_29 ?_
  refine xr_istore_n (pc := 30) (loc' := [(1, .int (s1 + s0)), (0, .ref x0), (2, .int x2)]) dX5_bends_30 rfl (by decide) rfl ?_
  refine xr_iinc (pc := 31) (loc' := [(2, .int (x2 + 1)), (1, .int (s1 + s0)), (0, .ref x0)]) 2 dX5_bends_31 rfl xci_1 (by decide) rfl ?_
  refine xr_goto (pc := 34) 4 dX5_bends_34 (by decide) ?_
  refine xV_sub [2, 1, 0] rfl ?_
  exact kc _ (Option.some.inj hf).symm
def Bc_X5_bends_4 (g : CG) (x0 : Nat) (x1 : Int32) (x2 : Int32) (τ : CC) : Option ((Int32 × Int32 × CC) ⊕ ((Int32 × CC))) :=
  if gT g x0 = 6 then
  (gR g 610 x0).bind fun b2 =>
  if gT g b2 = 1 then
  xbd (f_c_X0_columns g b2 τ) fun r4 τ4 =>
  if r4 ≤ x2 then
  some (.inr (x1, τ4))
  else
  xbd (f_c_X5_isBend g x0 x2 τ4) fun r5 τ5 =>
  if r5 = 0 then
  Jc_X5_bends_29 g x0 x2 0 x1 τ5
  else
  Jc_X5_bends_29 g x0 x2 1 x1 τ5
  else none
  else none
theorem ok_Bc_X5_bends_4 {D : CD} {P : CP} {K : xK} {g : CG} {Z : Option Value × CS} {x0 : Nat} {x1 : Int32} {x2 : Int32} {τ : CC} {o_ : ((Int32 × Int32 × CC) ⊕ ((Int32 × CC)))} (hf : Bc_X5_bends_4 g x0 x1 x2 τ = some o_) (kc : ∀ s_ : Int32 × Int32 × CC, o_ = .inl s_ → xV (wC D P) K mX5_bends (xQ (wC D P) K Z) (g, s_.2.2) 4 [(0, .ref x0), (1, .int s_.1), (2, .int s_.2.1)] []) (ke0 : ∀ e_ : Int32 × CC, o_ = .inr e_ → xV (wC D P) K mX5_bends (xQ (wC D P) K Z) (g, e_.2) 37 [(1, .int e_.1)] []) : xV (wC D P) K mX5_bends (xQ (wC D P) K Z) (g, τ) 4 [(0, .ref x0), (1, .int x1), (2, .int x2)] [] := by
  unfold Bc_X5_bends_4 at hf
  refine xr_iload_n (pc := 4) 2 dX5_bends_4 rfl rfl ?_
  refine xr_aload_n (pc := 5) 0 dX5_bends_5 rfl rfl ?_
  obtain ⟨ht1, hf⟩ := xo_if hf
  obtain ⟨b2, hb2, hf⟩ := xo_bind hf
  refine yc_getFs (pc := 6) 6 10 610 (gKo ht1 (by decide)) (by decide) (by decide) (by decide) rfl rfl hb2 q454 (ys_eq rfl) rfl dX5_bends_6 ?_
  obtain ⟨ht3, hf⟩ := xo_if hf
  obtain ⟨r4, τ4, hτ4, hf⟩ := xo_bd hf
  refine call_f_c_X0_columns_X5_78 (pc := 9) hτ4 (gKo ht3 (by decide)) rfl (Nat.le_of_ble_eq_true rfl) (Nat.le_of_ble_eq_true rfl) (Nat.le_of_ble_eq_true rfl) dX5_bends_9 ?_
  refine xr_icmp_ge (pc := 12) 37 dX5_bends_12 (by decide) (fun c_ => ?_) (fun c_ => ?_)
  · have hf := xo_pos c_ hf
    refine xV_sub [1] rfl ?_
    exact ke0 _ (Option.some.inj hf).symm
  · have hf := xo_neg c_ hf
    refine xr_iload_n (pc := 15) 1 dX5_bends_15 rfl rfl ?_
    refine xr_aload_n (pc := 16) 0 dX5_bends_16 rfl rfl ?_
    refine xr_iload_n (pc := 17) 2 dX5_bends_17 rfl rfl ?_
    obtain ⟨r5, τ5, hτ5, hf⟩ := xo_bd hf
    refine call_f_c_X5_isBend_X5_138 (pc := 18) hτ5 (gKo ht1 (by decide)) rfl (Nat.le_of_ble_eq_true rfl) (Nat.le_of_ble_eq_true rfl) (Nat.le_of_ble_eq_true rfl) dX5_bends_18 ?_
    refine xr_if_eq (pc := 21) 28 dX5_bends_21 (by decide) (fun c_ => ?_) (fun c_ => ?_)
    · have hf := xo_pos c_ hf
      refine xr_iconst (pc := 28) dX5_bends_28 xci_0 ?_
      refine xV_sub [0, 2] rfl ?_
      exact ok_Jc_X5_bends_29 hf kc ke0
    · have hf := xo_neg c_ hf
      refine xr_iconst (pc := 24) dX5_bends_24 xci_1 ?_
      refine xr_goto (pc := 25) 29 dX5_bends_25 (by decide) ?_
      refine xV_sub [0, 2] rfl ?_
      exact ok_Jc_X5_bends_29 hf kc ke0
def f_c_X5_bends (g : CG) (x0 : Nat) (τ : CC) : Option (Int32 × CC) :=
  (itr (fun s_ : Int32 × Int32 × CC => Bc_X5_bends_4 g x0 s_.1 s_.2.1 s_.2.2) 4096 (0, 0, τ)).bind fun b6 =>
  some ((b6.1, b6.2))
theorem ok_f_c_X5_bends {D : CD} {P : CP} {K : xK} {g : CG} {Z : Option Value × CS} {x0 : Nat} {τ : CC} {o_ : (Int32 × CC)} (hf : f_c_X5_bends g x0 τ = some o_) (kr : ∀ r_ : (Int32 × CC), o_ = r_ → Z = (some (.int r_.1), (g, r_.2))) : xV (wC D P) K mX5_bends (xQ (wC D P) K Z) (g, τ) 0 [(0, .ref x0)] [] := by
  unfold f_c_X5_bends at hf
  refine xr_iconst (pc := 0) dX5_bends_0 xci_0 ?_
  refine xr_istore_n (pc := 1) (loc' := [(1, .int 0), (0, .ref x0)]) dX5_bends_1 rfl (by decide) rfl ?_
  refine xr_iconst (pc := 2) dX5_bends_2 xci_0 ?_
  refine xr_istore_n (pc := 3) (loc' := [(2, .int 0), (1, .int 0), (0, .ref x0)]) dX5_bends_3 rfl (by decide) rfl ?_
  refine xV_sub [2, 1, 0] rfl ?_
  obtain ⟨b6, hb6, hf⟩ := xo_bind hf
  refine itr_rule (P := fun s_ : Int32 × Int32 × CC => xV (wC D P) K mX5_bends (xQ (wC D P) K Z) (g, s_.2.2) 4 [(0, .ref x0), (1, .int s_.1), (2, .int s_.2.1)] []) (fun s_ o_ hB_ hc_ he_ => ok_Bc_X5_bends_4 hB_ hc_ (fun e_ h_ => ?_)) 4096 _ hb6
  · have e9_ := he_ _ h_
    rw [e9_]
    refine xr_iload_n (pc := 37) 0 dX5_bends_37 rfl rfl ?_
    rw [kr _ (Option.some.inj hf).symm]
    exact xr_iret (pc := 38) dX5_bends_38 rfl
theorem met_f_c_X5_bends (l : Launch) {D : CD} {P : CP} {g : CG} {x0 : Nat} {τ : CC} {o_ : (Int32 × CC)} (hf : f_c_X5_bends g x0 τ = some o_) : xMet (wC D P) l yX5_bends (ws_ yX5_bends cX5_bends 3 (some .int)) 80 4800 (grc g) (grs g) [.ref x0] (g, τ) (some (.int o_.1), (g, o_.2)) := 
  xMet_of (by decide) (Nat.le_of_ble_eq_true rfl) KC_moved RPC_of (fun K _ _ _ => ok_f_c_X5_bends hf (fun _ h => by rw [h]))
theorem hd_f_c_X5_bends : yX5_bends.cls ≠ "java/lang/invoke/MethodHandle" ∧ yX5_bends.cls ≠ "java/lang/invoke/VarHandle" ∧ (parseMethodDescriptor yX5_bends.desc).map (fun d => d.parameters.length) = some 0 := by decide +kernel
theorem call_f_c_X5_bends_X0_215 {D : CD} {P : CP} {K : xK} {M : xM} {Q : State → Prop} {g : CG} {c : CC} {x0 : Nat} {pc : Nat} {loc : List (Nat × Value)} {st : List Value} {r : Int32} {c1 : CC} (hf : f_c_X5_bends g x0 c = some (r, c1)) (hr : gK g x0 = 6) (ho : M.2.2.1 = RX0) (hfr : 81 ≤ M.2.2.2.1) (hlo : 4822 ≤ M.2.2.2.2.1) (hcat : (st.map fun v => v.category).sum ≤ 8) (d : decode M.1 pc = .ok (.invokevirtual 215, 3)) (k : xV (wC D P) K M Q (g, c1) (pc + 3) loc (.int r :: st)) : xV (wC D P) K M Q (g, c) pc loc (.ref x0 :: st) :=
  yc_callV (As := []) (rest := st) (met_f_c_X5_bends K.2.1 hf) (lw_V q1273 q1274 q1275 q185 q1276) ⟨rfl, hd_f_c_X5_bends⟩ ho hfr hlo rfl hr (by decide) (by decide) rfl rfl hcat d k
abbrev mX0_has_2 : xM := (cX0_has_2, 11, RX0, 81, 4860, (some .int), "has")
def Bc_X0_has_2_180 (g : CG) (x3 : Nat) (x4 : Int32) (x5 : Int32) (x7 : Nat) (x8 : Int32) (x2 : Int32) (x9 : Int32) (τ : CC) : Option ((Int32 × Int32 × CC) ⊕ ((Int32 × CC))) :=
  if x8 ≤ x9 then
  some (.inr (x2, τ))
  else
  if gT g x7 = 100 then
  if xin x9 (gN g x7) = true then
  some (.inl (x2 + (cA τ x7 x9.toNatClampNeg), x9 + 1, τ))
  else none
  else none
theorem ok_Bc_X0_has_2_180 {D : CD} {P : CP} {K : xK} {g : CG} {Z : Option Value × CS} {x3 : Nat} {x4 : Int32} {x5 : Int32} {x7 : Nat} {x8 : Int32} {x2 : Int32} {x9 : Int32} {τ : CC} {o_ : ((Int32 × Int32 × CC) ⊕ ((Int32 × CC)))} (hf : Bc_X0_has_2_180 g x3 x4 x5 x7 x8 x2 x9 τ = some o_) (kc : ∀ s_ : Int32 × Int32 × CC, o_ = .inl s_ → xV (wC D P) K mX0_has_2 (xQ (wC D P) K Z) (g, s_.2.2) 180 [(2, .int s_.1), (3, .ref x3), (4, .int x4), (5, .int x5), (7, .ref x7), (8, .int x8), (9, .int s_.2.1)] []) (ke0 : ∀ e_ : Int32 × CC, o_ = .inr e_ → xV (wC D P) K mX0_has_2 (xQ (wC D P) K Z) (g, e_.2) 205 [(2, .int e_.1), (3, .ref x3), (4, .int x4), (5, .int x5)] []) : xV (wC D P) K mX0_has_2 (xQ (wC D P) K Z) (g, τ) 180 [(2, .int x2), (3, .ref x3), (4, .int x4), (5, .int x5), (7, .ref x7), (8, .int x8), (9, .int x9)] [] := by
  unfold Bc_X0_has_2_180 at hf
  refine xr_iload (pc := 180) 6 dX0_has_2_180 rfl ?_
  refine xr_iload (pc := 182) 5 dX0_has_2_182 rfl ?_
  refine xr_icmp_ge (pc := 184) 205 dX0_has_2_184 (by decide) (fun c_ => ?_) (fun c_ => ?_)
  · have hf := xo_pos c_ hf
    refine xV_sub [0, 1, 2, 3] rfl ?_
    exact ke0 _ (Option.some.inj hf).symm
  · have hf := xo_neg c_ hf
    refine xr_aload (pc := 187) 4 dX0_has_2_187 rfl ?_
    refine xr_iload (pc := 189) 6 dX0_has_2_189 rfl ?_
    obtain ⟨ht13, hf⟩ := xo_if hf
    obtain ⟨hi_, hf⟩ := xo_if hf
    refine yc_iald (pc := 191) (gKo ht13 (by decide)) hi_ dX0_has_2_191 ?_
    refine xr_istore (pc := 192) (loc' := [(10, .int (cA τ x7 x9.toNatClampNeg)), (2, .int x2), (3, .ref x3), (4, .int x4), (5, .int x5), (7, .ref x7), (8, .int x8), (9, .int x9)]) dX0_has_2_192 (by decide) rfl ?_
    refine xr_iload_n (pc := 194) 1 dX0_has_2_194 rfl rfl ?_
    refine xr_iload (pc := 195) 0 dX0_has_2_195 rfl ?_
    refine xr_iadd (pc := 197) dX0_has_2_197 ?_
    refine xr_istore_n (pc := 198) (loc' := [(2, .int (x2 + (cA τ x7 x9.toNatClampNeg))), (10, .int (cA τ x7 x9.toNatClampNeg)), (3, .ref x3), (4, .int x4), (5, .int x5), (7, .ref x7), (8, .int x8), (9, .int x9)]) dX0_has_2_198 rfl (by decide) rfl ?_
    refine xr_iinc (pc := 199) (loc' := [(9, .int (x9 + 1)), (2, .int (x2 + (cA τ x7 x9.toNatClampNeg))), (10, .int (cA τ x7 x9.toNatClampNeg)), (3, .ref x3), (4, .int x4), (5, .int x5), (7, .ref x7), (8, .int x8)]) 7 dX0_has_2_199 rfl xci_1 (by decide) rfl ?_
    refine xr_goto (pc := 202) 180 dX0_has_2_202 (by decide) ?_
    refine xV_sub [1, 3, 4, 5, 6, 7, 0] rfl ?_
    exact kc _ (Option.some.inj hf).symm
def Bc_X0_has_2_155 (g : CG) (x3 : Nat) (x4 : Int32) (x2 : Int32) (x5 : Int32) (τ : CC) : Option ((Int32 × Int32 × CC) ⊕ ((Int32 × CC))) :=
  if x4 ≤ x5 then
  some (.inr (x2, τ))
  else
  if gT g x3 = 105 then
  if xin x5 (gN g x3) = true then
  if gT g (gA g x3 x5.toNatClampNeg) = 100 then
  (itr (fun s_ : Int32 × Int32 × CC => Bc_X0_has_2_180 g x3 x4 x5 (gA g x3 x5.toNatClampNeg) (Int32.ofNat (gN g (gA g x3 x5.toNatClampNeg))) s_.1 s_.2.1 s_.2.2) 4096 (x2, 0, τ)).bind fun b14 =>
  some (.inl (b14.1, x5 + 1, b14.2))
  else none
  else none
  else none
theorem ok_Bc_X0_has_2_155 {D : CD} {P : CP} {K : xK} {g : CG} {Z : Option Value × CS} {x3 : Nat} {x4 : Int32} {x2 : Int32} {x5 : Int32} {τ : CC} {o_ : ((Int32 × Int32 × CC) ⊕ ((Int32 × CC)))} (hf : Bc_X0_has_2_155 g x3 x4 x2 x5 τ = some o_) (kc : ∀ s_ : Int32 × Int32 × CC, o_ = .inl s_ → xV (wC D P) K mX0_has_2 (xQ (wC D P) K Z) (g, s_.2.2) 155 [(2, .int s_.1), (3, .ref x3), (4, .int x4), (5, .int s_.2.1)] []) (ke0 : ∀ e_ : Int32 × CC, o_ = .inr e_ → xV (wC D P) K mX0_has_2 (xQ (wC D P) K Z) (g, e_.2) 211 [(2, .int e_.1)] []) : xV (wC D P) K mX0_has_2 (xQ (wC D P) K Z) (g, τ) 155 [(2, .int x2), (3, .ref x3), (4, .int x4), (5, .int x5)] [] := by
  unfold Bc_X0_has_2_155 at hf
  refine xr_iload (pc := 155) 3 dX0_has_2_155 rfl ?_
  refine xr_iload (pc := 157) 2 dX0_has_2_157 rfl ?_
  refine xr_icmp_ge (pc := 159) 211 dX0_has_2_159 (by decide) (fun c_ => ?_) (fun c_ => ?_)
  · have hf := xo_pos c_ hf
    refine xV_sub [0] rfl ?_
    exact ke0 _ (Option.some.inj hf).symm
  · have hf := xo_neg c_ hf
    refine xr_aload_n (pc := 162) 1 dX0_has_2_162 rfl rfl ?_
    refine xr_iload (pc := 163) 3 dX0_has_2_163 rfl ?_
    obtain ⟨ht11, hf⟩ := xo_if hf
    obtain ⟨hi_, hf⟩ := xo_if hf
    refine yc_aaldF (pc := 165) 105 (gKo ht11 (by decide)) (by decide) (by decide) rfl rfl hi_ dX0_has_2_165 ?_
    refine xr_astore (pc := 166) (loc' := [(6, .ref (gA g x3 x5.toNatClampNeg)), (2, .int x2), (3, .ref x3), (4, .int x4), (5, .int x5)]) dX0_has_2_166 (by decide) rfl ?_
    refine xr_aload (pc := 168) 0 dX0_has_2_168 rfl ?_
    refine xr_astore (pc := 170) (loc' := [(7, .ref (gA g x3 x5.toNatClampNeg)), (6, .ref (gA g x3 x5.toNatClampNeg)), (2, .int x2), (3, .ref x3), (4, .int x4), (5, .int x5)]) dX0_has_2_170 (by decide) rfl ?_
    refine xr_aload (pc := 172) 0 dX0_has_2_172 rfl ?_
    obtain ⟨ht12, hf⟩ := xo_if hf
    refine yc_alen (pc := 174) 100 (gKo ht12 (by decide)) (by decide) (by decide) dX0_has_2_174 ?_
    refine xr_istore (pc := 175) (loc' := [(8, .int (Int32.ofNat (gN g (gA g x3 x5.toNatClampNeg)))), (7, .ref (gA g x3 x5.toNatClampNeg)), (6, .ref (gA g x3 x5.toNatClampNeg)), (2, .int x2), (3, .ref x3), (4, .int x4), (5, .int x5)]) dX0_has_2_175 (by decide) rfl ?_
    refine xr_iconst (pc := 177) dX0_has_2_177 xci_0 ?_
    refine xr_istore (pc := 178) (loc' := [(9, .int 0), (8, .int (Int32.ofNat (gN g (gA g x3 x5.toNatClampNeg)))), (7, .ref (gA g x3 x5.toNatClampNeg)), (6, .ref (gA g x3 x5.toNatClampNeg)), (2, .int x2), (3, .ref x3), (4, .int x4), (5, .int x5)]) dX0_has_2_178 (by decide) rfl ?_
    refine xV_sub [4, 5, 6, 7, 2, 1, 0] rfl ?_
    obtain ⟨b14, hb14, hf⟩ := xo_bind hf
    refine itr_rule (P := fun s_ : Int32 × Int32 × CC => xV (wC D P) K mX0_has_2 (xQ (wC D P) K Z) (g, s_.2.2) 180 [(2, .int s_.1), (3, .ref x3), (4, .int x4), (5, .int x5), (7, .ref (gA g x3 x5.toNatClampNeg)), (8, .int (Int32.ofNat (gN g (gA g x3 x5.toNatClampNeg)))), (9, .int s_.2.1)] []) (fun s_ o_ hB_ hc_ he_ => ok_Bc_X0_has_2_180 hB_ hc_ (fun e_ h_ => ?_)) 4096 _ hb14
    · have e9_ := he_ _ h_
      rw [e9_]
      refine xr_iinc (pc := 205) (loc' := [(5, .int (x5 + 1)), (2, .int b14.1), (3, .ref x3), (4, .int x4)]) 3 dX0_has_2_205 rfl xci_1 (by decide) rfl ?_
      refine xr_goto (pc := 208) 155 dX0_has_2_208 (by decide) ?_
      refine xV_sub [1, 2, 3, 0] rfl ?_
      exact kc _ (Option.some.inj hf).symm
def Jc_X0_has_2_130 (g : CG) (x0 : Nat) (x3 : Int32) (s0 : Int32) (s1 : Int32) (τ : CC) : Option ((Int32 × Int32 × CC) ⊕ ((Int32 × CC))) :=
  some (.inl (s1 + s0, x3 + 1, τ))
theorem ok_Jc_X0_has_2_130 {D : CD} {P : CP} {K : xK} {g : CG} {Z : Option Value × CS} {x0 : Nat} {x3 : Int32} {s0 : Int32} {s1 : Int32} {τ : CC} {o_ : ((Int32 × Int32 × CC) ⊕ ((Int32 × CC)))} (hf : Jc_X0_has_2_130 g x0 x3 s0 s1 τ = some o_) (kc : ∀ s_ : Int32 × Int32 × CC, o_ = .inl s_ → xV (wC D P) K mX0_has_2 (xQ (wC D P) K Z) (g, s_.2.2) 104 [(0, .ref x0), (2, .int s_.1), (3, .int s_.2.1)] []) (ke0 : ∀ e_ : Int32 × CC, o_ = .inr e_ → xV (wC D P) K mX0_has_2 (xQ (wC D P) K Z) (g, e_.2) 138 [(2, .int e_.1)] []) : xV (wC D P) K mX0_has_2 (xQ (wC D P) K Z) (g, τ) 130 [(0, .ref x0), (3, .int x3)] [.int s0, .int s1] := by
  unfold Jc_X0_has_2_130 at hf
  refine xr_iadd (pc := 130) dX0_has_2_130 ?_
  refine xr_istore_n (pc := 131) (loc' := [(2, .int (s1 + s0)), (0, .ref x0), (3, .int x3)]) dX0_has_2_131 rfl (by decide) rfl ?_
  refine xr_iinc (pc := 132) (loc' := [(3, .int (x3 + 1)), (2, .int (s1 + s0)), (0, .ref x0)]) 2 dX0_has_2_132 rfl xci_1 (by decide) rfl ?_
  refine xr_goto (pc := 135) 104 dX0_has_2_135 (by decide) ?_
  refine xV_sub [2, 1, 0] rfl ?_
  exact kc _ (Option.some.inj hf).symm
def Bc_X0_has_2_104 (g : CG) (x0 : Nat) (x2 : Int32) (x3 : Int32) (τ : CC) : Option ((Int32 × Int32 × CC) ⊕ ((Int32 × CC))) :=
  if gT g x0 = 1 then
  xbd (f_c_X0_lords g x0 τ) fun r17 τ17 =>
  if r17 ≤ x3 then
  some (.inr (x2, τ17))
  else
  (gR g 109 x0).bind fun b18 =>
  if gT g b18 = 6 then
  (gR g 605 b18).bind fun b20 =>
  if gT g b20 = 104 then
  if xin x3 (gN g b20) = true then
  if (cA τ17 b20 x3.toNatClampNeg) = 0 then
  Jc_X0_has_2_130 g x0 x3 0 x2 τ17
  else
  Jc_X0_has_2_130 g x0 x3 1 x2 τ17
  else none
  else none
  else none
  else none
theorem ok_Bc_X0_has_2_104 {D : CD} {P : CP} {K : xK} {g : CG} {Z : Option Value × CS} {x0 : Nat} {x2 : Int32} {x3 : Int32} {τ : CC} {o_ : ((Int32 × Int32 × CC) ⊕ ((Int32 × CC)))} (hf : Bc_X0_has_2_104 g x0 x2 x3 τ = some o_) (kc : ∀ s_ : Int32 × Int32 × CC, o_ = .inl s_ → xV (wC D P) K mX0_has_2 (xQ (wC D P) K Z) (g, s_.2.2) 104 [(0, .ref x0), (2, .int s_.1), (3, .int s_.2.1)] []) (ke0 : ∀ e_ : Int32 × CC, o_ = .inr e_ → xV (wC D P) K mX0_has_2 (xQ (wC D P) K Z) (g, e_.2) 138 [(2, .int e_.1)] []) : xV (wC D P) K mX0_has_2 (xQ (wC D P) K Z) (g, τ) 104 [(0, .ref x0), (2, .int x2), (3, .int x3)] [] := by
  unfold Bc_X0_has_2_104 at hf
  refine xr_iload_n (pc := 104) 2 dX0_has_2_104 rfl rfl ?_
  refine xr_aload_n (pc := 105) 0 dX0_has_2_105 rfl rfl ?_
  obtain ⟨ht16, hf⟩ := xo_if hf
  obtain ⟨r17, τ17, hτ17, hf⟩ := xo_bd hf
  refine call_f_c_X0_lords_X0_180 (pc := 106) hτ17 (gKo ht16 (by decide)) rfl (Nat.le_of_ble_eq_true rfl) (Nat.le_of_ble_eq_true rfl) (Nat.le_of_ble_eq_true rfl) dX0_has_2_106 ?_
  refine xr_icmp_ge (pc := 109) 138 dX0_has_2_109 (by decide) (fun c_ => ?_) (fun c_ => ?_)
  · have hf := xo_pos c_ hf
    refine xV_sub [1] rfl ?_
    exact ke0 _ (Option.some.inj hf).symm
  · have hf := xo_neg c_ hf
    refine xr_iload_n (pc := 112) 1 dX0_has_2_112 rfl rfl ?_
    refine xr_aload_n (pc := 113) 0 dX0_has_2_113 rfl rfl ?_
    obtain ⟨b18, hb18, hf⟩ := xo_bind hf
    refine yc_getFs (pc := 114) 1 9 109 (gKo ht16 (by decide)) (by decide) (by decide) (by decide) rfl rfl hb18 q495 (ys_eq rfl) rfl dX0_has_2_114 ?_
    obtain ⟨ht19, hf⟩ := xo_if hf
    obtain ⟨b20, hb20, hf⟩ := xo_bind hf
    refine yc_getFsN (pc := 117) 6 5 605 (gKo ht19 (by decide)) (by decide) (by decide) (by decide) rfl rfl hb20 q445 (ys_eq rfl) rfl dX0_has_2_117 ?_
    refine xr_iload_n (pc := 120) 2 dX0_has_2_120 rfl rfl ?_
    obtain ⟨ht21, hf⟩ := xo_if hf
    obtain ⟨hi_, hf⟩ := xo_if hf
    refine yc_zald (pc := 121) (gKo ht21 (by decide)) hi_ dX0_has_2_121 ?_
    refine xr_if_eq (pc := 122) 129 dX0_has_2_122 (by decide) (fun c_ => ?_) (fun c_ => ?_)
    · have hf := xo_pos c_ hf
      refine xr_iconst (pc := 129) dX0_has_2_129 xci_0 ?_
      refine xV_sub [0, 2] rfl ?_
      exact ok_Jc_X0_has_2_130 hf kc ke0
    · have hf := xo_neg c_ hf
      refine xr_iconst (pc := 125) dX0_has_2_125 xci_1 ?_
      refine xr_goto (pc := 126) 130 dX0_has_2_126 (by decide) ?_
      refine xV_sub [0, 2] rfl ?_
      exact ok_Jc_X0_has_2_130 hf kc ke0
def f_c_X0_has_2 (g : CG) (x0 : Nat) (x1 : Int32) (τ : CC) : Option (Int32 × CC) :=
  if x1 = 0 then
  if gT g x0 = 1 then
  xbd (f_c_X0_columns g x0 τ) fun r39 τ39 =>
  some ((r39, τ39))
  else none
  else
  if x1 = 1 then
  if gT g x0 = 1 then
  (cR τ 100 x0).bind fun b36 =>
  if gT g b36 = 2 then
  some ((cI τ 202 b36, τ))
  else none
  else none
  else
  if x1 = 2 then
  if gT g x0 = 1 then
  xbd (f_c_X0_lords g x0 τ) fun r34 τ34 =>
  some ((r34, τ34))
  else none
  else
  if x1 = 3 then
  if gT g x0 = 1 then
  (gR g 109 x0).bind fun b31 =>
  if gT g b31 = 6 then
  some ((cI τ 600 b31, τ))
  else none
  else none
  else
  if x1 = 4 then
  if gT g x0 = 1 then
  (gR g 109 x0).bind fun b28 =>
  if gT g b28 = 6 then
  some ((cI τ 601 b28, τ))
  else none
  else none
  else
  if x1 = 5 then
  if gT g x0 = 1 then
  (gR g 109 x0).bind fun b24 =>
  if gT g b24 = 6 then
  xbd (f_c_X5_bends g b24 τ) fun r26 τ26 =>
  some ((r26, τ26))
  else none
  else none
  else
  if x1 = 6 then
  (itr (fun s_ : Int32 × Int32 × CC => Bc_X0_has_2_104 g x0 s_.1 s_.2.1 s_.2.2) 4096 (0, 0, τ)).bind fun b22 =>
  some ((b22.1, b22.2))
  else
  if x1 = 7 then
  if gT g x0 = 1 then
  (gR g 109 x0).bind fun b7 =>
  if gT g b7 = 6 then
  (gR g 606 b7).bind fun b9 =>
  if gT g b9 = 105 then
  (itr (fun s_ : Int32 × Int32 × CC => Bc_X0_has_2_155 g b9 (Int32.ofNat (gN g b9)) s_.1 s_.2.1 s_.2.2) 4096 (0, 0, τ)).bind fun b15 =>
  some ((b15.1, b15.2))
  else none
  else none
  else none
  else
  if x1 = 8 then
  if gT g x0 = 1 then
  (gR g 109 x0).bind fun b4 =>
  if gT g b4 = 6 then
  some ((cI τ 602 b4, τ))
  else none
  else none
  else
  if x1 = 9 then
  if gT g x0 = 1 then
  some ((cI τ 118 x0, τ))
  else none
  else
  if x1 = 10 then
  if gT g x0 = 1 then
  some ((cI τ 121 x0, τ))
  else none
  else
  some (((-1), τ))
theorem ok_f_c_X0_has_2 {D : CD} {P : CP} {K : xK} {g : CG} {Z : Option Value × CS} {x0 : Nat} {x1 : Int32} {τ : CC} {o_ : (Int32 × CC)} (hf : f_c_X0_has_2 g x0 x1 τ = some o_) (kr : ∀ r_ : (Int32 × CC), o_ = r_ → Z = (some (.int r_.1), (g, r_.2))) : xV (wC D P) K mX0_has_2 (xQ (wC D P) K Z) (g, τ) 0 [(0, .ref x0), (1, .int x1)] [] := by
  unfold f_c_X0_has_2 at hf
  refine xr_iconst (pc := 0) dX0_has_2_0 xci_0 ?_
  refine xr_istore_n (pc := 1) (loc' := [(2, .int 0), (0, .ref x0), (1, .int x1)]) dX0_has_2_1 rfl (by decide) rfl ?_
  refine xr_iload_n (pc := 2) 2 dX0_has_2_2 rfl rfl ?_
  by_cases c0_ : x1 = 0
  · have hf := xo_pos c0_ hf
    refine xr_tsw_in (pc := 3) (v := 0) (off := 57) 60 dX0_has_2_3 c0_ (by decide) (by decide +kernel) (by decide) ?_
    refine xr_aload_n (pc := 60) 1 dX0_has_2_60 rfl rfl ?_
    obtain ⟨ht38, hf⟩ := xo_if hf
    obtain ⟨r39, τ39, hτ39, hf⟩ := xo_bd hf
    refine call_f_c_X0_columns_X0_169 (pc := 61) hτ39 (gKo ht38 (by decide)) rfl (Nat.le_of_ble_eq_true rfl) (Nat.le_of_ble_eq_true rfl) (Nat.le_of_ble_eq_true rfl) dX0_has_2_61 ?_
    rw [kr _ (Option.some.inj hf).symm]
    exact xr_iret (pc := 64) dX0_has_2_64 rfl
  have hf := xo_neg c0_ hf
  by_cases c1_ : x1 = 1
  · have hf := xo_pos c1_ hf
    refine xr_tsw_in (pc := 3) (v := 1) (off := 62) 65 dX0_has_2_3 c1_ (by decide) (by decide +kernel) (by decide) ?_
    refine xr_aload_n (pc := 65) 1 dX0_has_2_65 rfl rfl ?_
    obtain ⟨ht35, hf⟩ := xo_if hf
    obtain ⟨b36, hb36, hf⟩ := xo_bind hf
    refine yc_getRs (pc := 66) 1 0 100 (gKo ht35 (by decide)) (by decide) (by decide) (by decide) rfl rfl hb36 q484 (ys_eq rfl) rfl dX0_has_2_66 ?_
    obtain ⟨ht37, hf⟩ := xo_if hf
    refine yc_getIN (pc := 69) 2 2 202 (gKo ht37 (by decide)) (by decide) (by decide) (by decide) rfl rfl q263 (ys_eq rfl) rfl dX0_has_2_69 ?_
    rw [kr _ (Option.some.inj hf).symm]
    exact xr_iret (pc := 72) dX0_has_2_72 rfl
  have hf := xo_neg c1_ hf
  by_cases c2_ : x1 = 2
  · have hf := xo_pos c2_ hf
    refine xr_tsw_in (pc := 3) (v := 2) (off := 70) 73 dX0_has_2_3 c2_ (by decide) (by decide +kernel) (by decide) ?_
    refine xr_aload_n (pc := 73) 1 dX0_has_2_73 rfl rfl ?_
    obtain ⟨ht33, hf⟩ := xo_if hf
    obtain ⟨r34, τ34, hτ34, hf⟩ := xo_bd hf
    refine call_f_c_X0_lords_X0_180 (pc := 74) hτ34 (gKo ht33 (by decide)) rfl (Nat.le_of_ble_eq_true rfl) (Nat.le_of_ble_eq_true rfl) (Nat.le_of_ble_eq_true rfl) dX0_has_2_74 ?_
    rw [kr _ (Option.some.inj hf).symm]
    exact xr_iret (pc := 77) dX0_has_2_77 rfl
  have hf := xo_neg c2_ hf
  by_cases c3_ : x1 = 3
  · have hf := xo_pos c3_ hf
    refine xr_tsw_in (pc := 3) (v := 3) (off := 75) 78 dX0_has_2_3 c3_ (by decide) (by decide +kernel) (by decide) ?_
    refine xr_aload_n (pc := 78) 1 dX0_has_2_78 rfl rfl ?_
    obtain ⟨ht30, hf⟩ := xo_if hf
    obtain ⟨b31, hb31, hf⟩ := xo_bind hf
    refine yc_getFs (pc := 79) 1 9 109 (gKo ht30 (by decide)) (by decide) (by decide) (by decide) rfl rfl hb31 q495 (ys_eq rfl) rfl dX0_has_2_79 ?_
    obtain ⟨ht32, hf⟩ := xo_if hf
    refine yc_getIN (pc := 82) 6 0 600 (gKo ht32 (by decide)) (by decide) (by decide) (by decide) rfl rfl q435 (ys_eq rfl) rfl dX0_has_2_82 ?_
    rw [kr _ (Option.some.inj hf).symm]
    exact xr_iret (pc := 85) dX0_has_2_85 rfl
  have hf := xo_neg c3_ hf
  by_cases c4_ : x1 = 4
  · have hf := xo_pos c4_ hf
    refine xr_tsw_in (pc := 3) (v := 4) (off := 83) 86 dX0_has_2_3 c4_ (by decide) (by decide +kernel) (by decide) ?_
    refine xr_aload_n (pc := 86) 1 dX0_has_2_86 rfl rfl ?_
    obtain ⟨ht27, hf⟩ := xo_if hf
    obtain ⟨b28, hb28, hf⟩ := xo_bind hf
    refine yc_getFs (pc := 87) 1 9 109 (gKo ht27 (by decide)) (by decide) (by decide) (by decide) rfl rfl hb28 q495 (ys_eq rfl) rfl dX0_has_2_87 ?_
    obtain ⟨ht29, hf⟩ := xo_if hf
    refine yc_getIN (pc := 90) 6 1 601 (gKo ht29 (by decide)) (by decide) (by decide) (by decide) rfl rfl q437 (ys_eq rfl) rfl dX0_has_2_90 ?_
    rw [kr _ (Option.some.inj hf).symm]
    exact xr_iret (pc := 93) dX0_has_2_93 rfl
  have hf := xo_neg c4_ hf
  by_cases c5_ : x1 = 5
  · have hf := xo_pos c5_ hf
    refine xr_tsw_in (pc := 3) (v := 5) (off := 91) 94 dX0_has_2_3 c5_ (by decide) (by decide +kernel) (by decide) ?_
    refine xr_aload_n (pc := 94) 1 dX0_has_2_94 rfl rfl ?_
    obtain ⟨ht23, hf⟩ := xo_if hf
    obtain ⟨b24, hb24, hf⟩ := xo_bind hf
    refine yc_getFs (pc := 95) 1 9 109 (gKo ht23 (by decide)) (by decide) (by decide) (by decide) rfl rfl hb24 q495 (ys_eq rfl) rfl dX0_has_2_95 ?_
    obtain ⟨ht25, hf⟩ := xo_if hf
    obtain ⟨r26, τ26, hτ26, hf⟩ := xo_bd hf
    refine call_f_c_X5_bends_X0_215 (pc := 98) hτ26 (gKo ht25 (by decide)) rfl (Nat.le_of_ble_eq_true rfl) (Nat.le_of_ble_eq_true rfl) (Nat.le_of_ble_eq_true rfl) dX0_has_2_98 ?_
    rw [kr _ (Option.some.inj hf).symm]
    exact xr_iret (pc := 101) dX0_has_2_101 rfl
  have hf := xo_neg c5_ hf
  by_cases c6_ : x1 = 6
  · have hf := xo_pos c6_ hf
    refine xr_tsw_in (pc := 3) (v := 6) (off := 99) 102 dX0_has_2_3 c6_ (by decide) (by decide +kernel) (by decide) ?_
    refine xr_iconst (pc := 102) dX0_has_2_102 xci_0 ?_
    refine xr_istore_n (pc := 103) (loc' := [(3, .int 0), (2, .int 0), (0, .ref x0), (1, .int x1)]) dX0_has_2_103 rfl (by decide) rfl ?_
    refine xV_sub [2, 1, 0] rfl ?_
    obtain ⟨b22, hb22, hf⟩ := xo_bind hf
    refine itr_rule (P := fun s_ : Int32 × Int32 × CC => xV (wC D P) K mX0_has_2 (xQ (wC D P) K Z) (g, s_.2.2) 104 [(0, .ref x0), (2, .int s_.1), (3, .int s_.2.1)] []) (fun s_ o_ hB_ hc_ he_ => ok_Bc_X0_has_2_104 hB_ hc_ (fun e_ h_ => ?_)) 4096 _ hb22
    · have e9_ := he_ _ h_
      rw [e9_]
      refine xr_iload_n (pc := 138) 0 dX0_has_2_138 rfl rfl ?_
      rw [kr _ (Option.some.inj hf).symm]
      exact xr_iret (pc := 139) dX0_has_2_139 rfl
  have hf := xo_neg c6_ hf
  by_cases c7_ : x1 = 7
  · have hf := xo_pos c7_ hf
    refine xr_tsw_in (pc := 3) (v := 7) (off := 137) 140 dX0_has_2_3 c7_ (by decide) (by decide +kernel) (by decide) ?_
    refine xr_aload_n (pc := 140) 1 dX0_has_2_140 rfl rfl ?_
    obtain ⟨ht6, hf⟩ := xo_if hf
    obtain ⟨b7, hb7, hf⟩ := xo_bind hf
    refine yc_getFs (pc := 141) 1 9 109 (gKo ht6 (by decide)) (by decide) (by decide) (by decide) rfl rfl hb7 q495 (ys_eq rfl) rfl dX0_has_2_141 ?_
    obtain ⟨ht8, hf⟩ := xo_if hf
    obtain ⟨b9, hb9, hf⟩ := xo_bind hf
    refine yc_getFsN (pc := 144) 6 6 606 (gKo ht8 (by decide)) (by decide) (by decide) (by decide) rfl rfl hb9 q447 (ys_eq rfl) rfl dX0_has_2_144 ?_
    refine xr_astore_n (pc := 147) (loc' := [(3, .ref b9), (2, .int 0), (0, .ref x0), (1, .int x1)]) dX0_has_2_147 rfl (by decide) rfl ?_
    refine xr_aload_n (pc := 148) 0 dX0_has_2_148 rfl rfl ?_
    obtain ⟨ht10, hf⟩ := xo_if hf
    refine yc_alen (pc := 149) 105 (gKo ht10 (by decide)) (by decide) (by decide) dX0_has_2_149 ?_
    refine xr_istore (pc := 150) (loc' := [(4, .int (Int32.ofNat (gN g b9))), (3, .ref b9), (2, .int 0), (0, .ref x0), (1, .int x1)]) dX0_has_2_150 (by decide) rfl ?_
    refine xr_iconst (pc := 152) dX0_has_2_152 xci_0 ?_
    refine xr_istore (pc := 153) (loc' := [(5, .int 0), (4, .int (Int32.ofNat (gN g b9))), (3, .ref b9), (2, .int 0), (0, .ref x0), (1, .int x1)]) dX0_has_2_153 (by decide) rfl ?_
    refine xV_sub [3, 2, 1, 0] rfl ?_
    obtain ⟨b15, hb15, hf⟩ := xo_bind hf
    refine itr_rule (P := fun s_ : Int32 × Int32 × CC => xV (wC D P) K mX0_has_2 (xQ (wC D P) K Z) (g, s_.2.2) 155 [(2, .int s_.1), (3, .ref b9), (4, .int (Int32.ofNat (gN g b9))), (5, .int s_.2.1)] []) (fun s_ o_ hB_ hc_ he_ => ok_Bc_X0_has_2_155 hB_ hc_ (fun e_ h_ => ?_)) 4096 _ hb15
    · have e9_ := he_ _ h_
      rw [e9_]
      refine xr_iload_n (pc := 211) 0 dX0_has_2_211 rfl rfl ?_
      rw [kr _ (Option.some.inj hf).symm]
      exact xr_iret (pc := 212) dX0_has_2_212 rfl
  have hf := xo_neg c7_ hf
  by_cases c8_ : x1 = 8
  · have hf := xo_pos c8_ hf
    refine xr_tsw_in (pc := 3) (v := 8) (off := 210) 213 dX0_has_2_3 c8_ (by decide) (by decide +kernel) (by decide) ?_
    refine xr_aload_n (pc := 213) 1 dX0_has_2_213 rfl rfl ?_
    obtain ⟨ht3, hf⟩ := xo_if hf
    obtain ⟨b4, hb4, hf⟩ := xo_bind hf
    refine yc_getFs (pc := 214) 1 9 109 (gKo ht3 (by decide)) (by decide) (by decide) (by decide) rfl rfl hb4 q495 (ys_eq rfl) rfl dX0_has_2_214 ?_
    obtain ⟨ht5, hf⟩ := xo_if hf
    refine yc_getIN (pc := 217) 6 2 602 (gKo ht5 (by decide)) (by decide) (by decide) (by decide) rfl rfl q439 (ys_eq rfl) rfl dX0_has_2_217 ?_
    rw [kr _ (Option.some.inj hf).symm]
    exact xr_iret (pc := 220) dX0_has_2_220 rfl
  have hf := xo_neg c8_ hf
  by_cases c9_ : x1 = 9
  · have hf := xo_pos c9_ hf
    refine xr_tsw_in (pc := 3) (v := 9) (off := 218) 221 dX0_has_2_3 c9_ (by decide) (by decide +kernel) (by decide) ?_
    refine xr_aload_n (pc := 221) 1 dX0_has_2_221 rfl rfl ?_
    obtain ⟨ht2, hf⟩ := xo_if hf
    refine yc_getI (pc := 222) 1 18 118 (gKo ht2 (by decide)) (by decide) (by decide) (by decide) rfl rfl q504 (ys_eq rfl) rfl dX0_has_2_222 ?_
    rw [kr _ (Option.some.inj hf).symm]
    exact xr_iret (pc := 225) dX0_has_2_225 rfl
  have hf := xo_neg c9_ hf
  by_cases c10_ : x1 = 10
  · have hf := xo_pos c10_ hf
    refine xr_tsw_in (pc := 3) (v := 10) (off := 223) 226 dX0_has_2_3 c10_ (by decide) (by decide +kernel) (by decide) ?_
    refine xr_aload_n (pc := 226) 1 dX0_has_2_226 rfl rfl ?_
    obtain ⟨ht1, hf⟩ := xo_if hf
    refine yc_getI (pc := 227) 1 21 121 (gKo ht1 (by decide)) (by decide) (by decide) (by decide) rfl rfl q507 (ys_eq rfl) rfl dX0_has_2_227 ?_
    rw [kr _ (Option.some.inj hf).symm]
    exact xr_iret (pc := 230) dX0_has_2_230 rfl
  have hf := xo_neg c10_ hf
  refine xr_tsw_out (pc := 3) 231 dX0_has_2_3 (xsw_out 0 10 [0, 1, 2, 3, 4, 5, 6, 7, 8, 9, 10] (by decide +kernel) (List.forall_mem_cons.mpr ⟨c0_, List.forall_mem_cons.mpr ⟨c1_, List.forall_mem_cons.mpr ⟨c2_, List.forall_mem_cons.mpr ⟨c3_, List.forall_mem_cons.mpr ⟨c4_, List.forall_mem_cons.mpr ⟨c5_, List.forall_mem_cons.mpr ⟨c6_, List.forall_mem_cons.mpr ⟨c7_, List.forall_mem_cons.mpr ⟨c8_, List.forall_mem_cons.mpr ⟨c9_, List.forall_mem_cons.mpr ⟨c10_, List.forall_mem_nil _⟩⟩⟩⟩⟩⟩⟩⟩⟩⟩⟩)) (by decide) ?_
  refine xr_iconst (pc := 231) dX0_has_2_231 xci_m1 ?_
  rw [kr _ (Option.some.inj hf).symm]
  exact xr_iret (pc := 232) dX0_has_2_232 rfl
theorem met_f_c_X0_has_2 (l : Launch) {D : CD} {P : CP} {g : CG} {x0 : Nat} {x1 : Int32} {τ : CC} {o_ : (Int32 × CC)} (hf : f_c_X0_has_2 g x0 x1 τ = some o_) : xMet (wC D P) l yX0_has_2 (ws_ yX0_has_2 cX0_has_2 11 (some .int)) 81 4860 (grc g) (grs g) [.ref x0, .int x1] (g, τ) (some (.int o_.1), (g, o_.2)) := 
  xMet_of (by decide) (Nat.le_of_ble_eq_true rfl) KC_moved RPC_of (fun K _ _ _ => ok_f_c_X0_has_2 hf (fun _ h => by rw [h]))
abbrev mJ6_coder : xM := (cJ6_coder, 1, RJ6, 0, 0, (some .byte), "coder")
def f_c_J6_coder (g : CG) (x0 : Nat) (τ : CC) : Option (Int32 × CC) :=
  if gK g x0 = 19 then
  some (((cI τ 1901 x0).toInt8.toInt32, τ))
  else none
theorem ok_f_c_J6_coder {D : CD} {P : CP} {K : xK} {g : CG} {Z : Option Value × CS} {x0 : Nat} {τ : CC} {o_ : (Int32 × CC)} (hf : f_c_J6_coder g x0 τ = some o_) (kr : ∀ r_ : (Int32 × CC), o_ = r_ → Z = (some (.int r_.1), (g, r_.2))) : xV (wC D P) K mJ6_coder (xQ (wC D P) K Z) (g, τ) 0 [(0, .ref x0)] [] := by
  unfold f_c_J6_coder at hf
  refine yc_gets8 (pc := 0) q637 rfl rfl dJ6_coder_0 ?_
  refine xr_if_eq (pc := 3) 13 dJ6_coder_3 (by decide) (fun c_ => ?_) (fun c_ => ?_)
  · exact absurd c_ (by decide)
  · refine xr_aload_n (pc := 6) 0 dJ6_coder_6 rfl rfl ?_
    obtain ⟨ht1, hf⟩ := xo_if hf
    refine yc_getI (pc := 7) 19 1 1901 ht1 (by decide) (by decide) (by decide) rfl rfl q689 (ys_eq rfl) rfl dJ6_coder_7 ?_
    refine xr_goto (pc := 10) 14 dJ6_coder_10 (by decide) ?_
    rw [kr _ (Option.some.inj hf).symm]
    exact xr_bret (pc := 14) dJ6_coder_14 rfl rfl
theorem met_f_c_J6_coder (l : Launch) {D : CD} {P : CP} {g : CG} {x0 : Nat} {τ : CC} {o_ : (Int32 × CC)} (hf : f_c_J6_coder g x0 τ = some o_) : xMet (wC D P) l yJ6_coder (ws_ yJ6_coder cJ6_coder 1 (some .byte)) 0 0 (grc g) (grs g) [.ref x0] (g, τ) (some (.int o_.1), (g, o_.2)) := 
  xMet_of (by decide) (Nat.le_of_ble_eq_true rfl) KC_moved RPC_of (fun K _ _ _ => ok_f_c_J6_coder hf (fun _ h => by rw [h]))
theorem hd_f_c_J6_coder : yJ6_coder.cls ≠ "java/lang/invoke/MethodHandle" ∧ yJ6_coder.cls ≠ "java/lang/invoke/VarHandle" ∧ (parseMethodDescriptor yJ6_coder.desc).map (fun d => d.parameters.length) = some 0 := by decide +kernel
theorem call_f_c_J6_coder_J6_335 {D : CD} {P : CP} {K : xK} {M : xM} {Q : State → Prop} {g : CG} {c : CC} {x0 : Nat} {pc : Nat} {loc : List (Nat × Value)} {st : List Value} {r : Int32} {c1 : CC} (hf : f_c_J6_coder g x0 c = some (r, c1)) (hr : gK g x0 = 19) (ho : M.2.2.1 = RJ6) (hfr : 1 ≤ M.2.2.2.1) (hlo : 20 ≤ M.2.2.2.2.1) (hcat : (st.map fun v => v.category).sum ≤ 8) (d : decode M.1 pc = .ok (.invokevirtual 335, 3)) (k : xV (wC D P) K M Q (g, c1) (pc + 3) loc (.int r :: st)) : xV (wC D P) K M Q (g, c) pc loc (.ref x0 :: st) :=
  yc_callV (As := []) (rest := st) (met_f_c_J6_coder K.2.1 hf) (lw_V q827 q828 q829 q187 q830) ⟨rfl, hd_f_c_J6_coder⟩ ho hfr hlo rfl hr (by decide) (by decide) rfl rfl hcat d k
abbrev mJ6_length : xM := (cJ6_length, 1, RJ6, 1, 60, (some .int), "length")
def f_c_J6_length (g : CG) (x0 : Nat) (τ : CC) : Option (Int32 × CC) :=
  if gK g x0 = 19 then
  (gR g 1900 x0).bind fun b2 =>
  if gK g b2 = 103 then
  xbd (f_c_J6_coder g x0 τ) fun r4 τ4 =>
  some (((Int32.ofNat (gN g b2) : Int32) >>> (r4 &&& 31), τ4))
  else none
  else none
theorem ok_f_c_J6_length {D : CD} {P : CP} {K : xK} {g : CG} {Z : Option Value × CS} {x0 : Nat} {τ : CC} {o_ : (Int32 × CC)} (hf : f_c_J6_length g x0 τ = some o_) (kr : ∀ r_ : (Int32 × CC), o_ = r_ → Z = (some (.int r_.1), (g, r_.2))) : xV (wC D P) K mJ6_length (xQ (wC D P) K Z) (g, τ) 0 [(0, .ref x0)] [] := by
  unfold f_c_J6_length at hf
  refine xr_aload_n (pc := 0) 0 dJ6_length_0 rfl rfl ?_
  obtain ⟨ht1, hf⟩ := xo_if hf
  obtain ⟨b2, hb2, hf⟩ := xo_bind hf
  refine yc_getFs (pc := 1) 19 0 1900 ht1 (by decide) (by decide) (by decide) rfl rfl hb2 q688 (ys_eq rfl) rfl dJ6_length_1 ?_
  obtain ⟨ht3, hf⟩ := xo_if hf
  refine yc_alen (pc := 4) 103 ht3 (by decide) (by decide) dJ6_length_4 ?_
  refine xr_aload_n (pc := 5) 0 dJ6_length_5 rfl rfl ?_
  obtain ⟨r4, τ4, hτ4, hf⟩ := xo_bd hf
  refine call_f_c_J6_coder_J6_335 (pc := 6) hτ4 ht1 rfl (Nat.le_of_ble_eq_true rfl) (Nat.le_of_ble_eq_true rfl) (Nat.le_of_ble_eq_true rfl) dJ6_length_6 ?_
  refine xr_ishr (pc := 9) dJ6_length_9 ?_
  rw [kr _ (Option.some.inj hf).symm]
  exact xr_iret (pc := 10) dJ6_length_10 rfl
theorem met_f_c_J6_length (l : Launch) {D : CD} {P : CP} {g : CG} {x0 : Nat} {τ : CC} {o_ : (Int32 × CC)} (hf : f_c_J6_length g x0 τ = some o_) : xMet (wC D P) l yJ6_length (ws_ yJ6_length cJ6_length 1 (some .int)) 1 60 (grc g) (grs g) [.ref x0] (g, τ) (some (.int o_.1), (g, o_.2)) := 
  xMet_of (by decide) (Nat.le_of_ble_eq_true rfl) KC_moved RPC_of (fun K _ _ _ => ok_f_c_J6_length hf (fun _ h => by rw [h]))
abbrev mJ6_isLatin1 : xM := (cJ6_isLatin1, 1, RJ6, 0, 0, (some .boolean), "isLatin1")
def Jc_J6_isLatin1_17 (g : CG) (τ : CC) : Option (Int32 × CC) :=
  some ((0, τ))
theorem ok_Jc_J6_isLatin1_17 {D : CD} {P : CP} {K : xK} {g : CG} {Z : Option Value × CS} {τ : CC} {o_ : (Int32 × CC)} (hf : Jc_J6_isLatin1_17 g τ = some o_) (kr : ∀ r_ : (Int32 × CC), o_ = r_ → Z = (some (.int r_.1), (g, r_.2))) : xV (wC D P) K mJ6_isLatin1 (xQ (wC D P) K Z) (g, τ) 17 [] [] := by
  unfold Jc_J6_isLatin1_17 at hf
  refine xr_iconst (pc := 17) dJ6_isLatin1_17 xci_0 ?_
  rw [kr _ (Option.some.inj hf).symm]
  exact xr_zret (pc := 18) dJ6_isLatin1_18 rfl xz_0
def f_c_J6_isLatin1 (g : CG) (x0 : Nat) (τ : CC) : Option (Int32 × CC) :=
  if gK g x0 = 19 then
  if (cI τ 1901 x0) = 0 then
  some ((1, τ))
  else
  Jc_J6_isLatin1_17 g τ
  else none
theorem ok_f_c_J6_isLatin1 {D : CD} {P : CP} {K : xK} {g : CG} {Z : Option Value × CS} {x0 : Nat} {τ : CC} {o_ : (Int32 × CC)} (hf : f_c_J6_isLatin1 g x0 τ = some o_) (kr : ∀ r_ : (Int32 × CC), o_ = r_ → Z = (some (.int r_.1), (g, r_.2))) : xV (wC D P) K mJ6_isLatin1 (xQ (wC D P) K Z) (g, τ) 0 [(0, .ref x0)] [] := by
  unfold f_c_J6_isLatin1 at hf
  refine yc_gets8 (pc := 0) q637 rfl rfl dJ6_isLatin1_0 ?_
  refine xr_if_eq (pc := 3) 17 dJ6_isLatin1_3 (by decide) (fun c_ => ?_) (fun c_ => ?_)
  · exact absurd c_ (by decide)
  · refine xr_aload_n (pc := 6) 0 dJ6_isLatin1_6 rfl rfl ?_
    obtain ⟨ht1, hf⟩ := xo_if hf
    refine yc_getI (pc := 7) 19 1 1901 ht1 (by decide) (by decide) (by decide) rfl rfl q689 (ys_eq rfl) rfl dJ6_isLatin1_7 ?_
    refine xr_if_ne (pc := 10) 17 dJ6_isLatin1_10 (by decide) (fun c_ => ?_) (fun c_ => ?_)
    · have hf := xo_pos c_ hf
      refine xr_iconst (pc := 13) dJ6_isLatin1_13 xci_1 ?_
      refine xr_goto (pc := 14) 18 dJ6_isLatin1_14 (by decide) ?_
      rw [kr _ (Option.some.inj hf).symm]
      exact xr_zret (pc := 18) dJ6_isLatin1_18 rfl xz_1
    · have hf := xo_neg c_ hf
      refine xV_sub [] rfl ?_
      exact ok_Jc_J6_isLatin1_17 hf kr
theorem met_f_c_J6_isLatin1 (l : Launch) {D : CD} {P : CP} {g : CG} {x0 : Nat} {τ : CC} {o_ : (Int32 × CC)} (hf : f_c_J6_isLatin1 g x0 τ = some o_) : xMet (wC D P) l yJ6_isLatin1 (ws_ yJ6_isLatin1 cJ6_isLatin1 1 (some .boolean)) 0 0 (grc g) (grs g) [.ref x0] (g, τ) (some (.int o_.1), (g, o_.2)) := 
  xMet_of (by decide) (Nat.le_of_ble_eq_true rfl) KC_moved RPC_of (fun K _ _ _ => ok_f_c_J6_isLatin1 hf (fun _ h => by rw [h]))
theorem call_f_c_J6_checkIndex_J9_9 {D : CD} {P : CP} {K : xK} {M : xM} {Q : State → Prop} {g : CG} {c : CC} {x0 : Int32} {x1 : Int32} {pc : Nat} {loc : List (Nat × Value)} {st : List Value} {c1 : CC} (hf : f_c_J6_checkIndex g x0 x1 c = some c1) (ho : M.2.2.1 = RJ9) (hfr : 2 ≤ M.2.2.2.1) (hlo : 81 ≤ M.2.2.2.2.1) (hcat : (st.map fun v => v.category).sum ≤ 8) (d : decode M.1 pc = .ok (.invokestatic 9, 3)) (k : xV (wC D P) K M Q (g, c1) (pc + 3) loc st) : xV (wC D P) K M Q (g, c) pc loc (.int x1 :: .int x0 :: st) :=
  yc_callS (As := [.int x0, .int x1]) (rest := st) (met_f_c_J6_checkIndex K.2.1 hf) (lw_S q1412 q1162 q187 q1163) hd_f_c_J6_checkIndex ho hfr hlo rfl rfl hcat d k
abbrev mJ9_charAt : xM := (cJ9_charAt, 2, RJ9, 2, 120, (some .char), "charAt")
def f_c_J9_charAt (g : CG) (x0 : Nat) (x1 : Int32) (τ : CC) : Option (Int32 × CC) :=
  if gK g x0 = 103 then
  (f_c_J6_checkIndex g x1 (Int32.ofNat (gN g x0)) τ).bind fun τ2 =>
  if xin x1 (gN g x0) = true then
  some ((((((cA τ2 x0 x1.toNatClampNeg) &&& 255).toUInt32 % 65536).toInt32).toUInt32.toUInt16.toUInt32.toInt32, τ2))
  else none
  else none
theorem ok_f_c_J9_charAt {D : CD} {P : CP} {K : xK} {g : CG} {Z : Option Value × CS} {x0 : Nat} {x1 : Int32} {τ : CC} {o_ : (Int32 × CC)} (hf : f_c_J9_charAt g x0 x1 τ = some o_) (kr : ∀ r_ : (Int32 × CC), o_ = r_ → Z = (some (.int r_.1), (g, r_.2))) : xV (wC D P) K mJ9_charAt (xQ (wC D P) K Z) (g, τ) 0 [(0, .ref x0), (1, .int x1)] [] := by
  unfold f_c_J9_charAt at hf
  refine xr_iload_n (pc := 0) 1 dJ9_charAt_0 rfl rfl ?_
  refine xr_aload_n (pc := 1) 0 dJ9_charAt_1 rfl rfl ?_
  obtain ⟨ht1, hf⟩ := xo_if hf
  refine yc_alen (pc := 2) 103 ht1 (by decide) (by decide) dJ9_charAt_2 ?_
  obtain ⟨τ2, hτ2, hf⟩ := xo_bind hf
  refine call_f_c_J6_checkIndex_J9_9 (pc := 3) hτ2 rfl (Nat.le_of_ble_eq_true rfl) (Nat.le_of_ble_eq_true rfl) (Nat.le_of_ble_eq_true rfl) dJ9_charAt_3 ?_
  refine xr_aload_n (pc := 6) 0 dJ9_charAt_6 rfl rfl ?_
  refine xr_iload_n (pc := 7) 1 dJ9_charAt_7 rfl rfl ?_
  obtain ⟨hi_, hf⟩ := xo_if hf
  refine yc_bald (pc := 8) ht1 hi_ dJ9_charAt_8 ?_
  refine xr_sipush (pc := 9) dJ9_charAt_9 xcs_255 ?_
  refine xr_iand (pc := 12) dJ9_charAt_12 ?_
  refine xr_i2c (pc := 13) dJ9_charAt_13 ?_
  rw [kr _ (Option.some.inj hf).symm]
  exact xr_cret (pc := 14) dJ9_charAt_14 rfl rfl
theorem met_f_c_J9_charAt (l : Launch) {D : CD} {P : CP} {g : CG} {x0 : Nat} {x1 : Int32} {τ : CC} {o_ : (Int32 × CC)} (hf : f_c_J9_charAt g x0 x1 τ = some o_) : xMet (wC D P) l yJ9_charAt (ws_ yJ9_charAt cJ9_charAt 2 (some .char)) 2 120 (grc g) (grs g) [.ref x0, .int x1] (g, τ) (some (.int o_.1), (g, o_.2)) := 
  xMet_of (by decide) (Nat.le_of_ble_eq_true rfl) KC_moved RPC_of (fun K _ _ _ => ok_f_c_J9_charAt hf (fun _ h => by rw [h]))
theorem hd_f_c_J7_length : yJ7_length.cls ≠ "java/lang/invoke/MethodHandle" ∧ yJ7_length.cls ≠ "java/lang/invoke/VarHandle" ∧ (parseMethodDescriptor yJ7_length.desc).map (fun d => d.parameters.length) = some 1 := by decide +kernel
theorem call_f_c_J7_length_J7_48 {D : CD} {P : CP} {K : xK} {M : xM} {Q : State → Prop} {g : CG} {c : CC} {x0 : Nat} {pc : Nat} {loc : List (Nat × Value)} {st : List Value} {r : Int32} {c1 : CC} (hf : f_c_J7_length g x0 c = some (r, c1)) (ho : M.2.2.1 = RJ7) (hfr : 1 ≤ M.2.2.2.1) (hlo : 20 ≤ M.2.2.2.2.1) (hcat : (st.map fun v => v.category).sum ≤ 8) (d : decode M.1 pc = .ok (.invokestatic 48, 3)) (k : xV (wC D P) K M Q (g, c1) (pc + 3) loc (.int r :: st)) : xV (wC D P) K M Q (g, c) pc loc (.ref x0 :: st) :=
  yc_callS (As := [.ref x0]) (rest := st) (met_f_c_J7_length K.2.1 hf) (lw_S q660 q661 q188 q662) hd_f_c_J7_length ho hfr hlo rfl rfl hcat d k
theorem call_f_c_J6_checkIndex_J7_414 {D : CD} {P : CP} {K : xK} {M : xM} {Q : State → Prop} {g : CG} {c : CC} {x0 : Int32} {x1 : Int32} {pc : Nat} {loc : List (Nat × Value)} {st : List Value} {c1 : CC} (hf : f_c_J6_checkIndex g x0 x1 c = some c1) (ho : M.2.2.1 = RJ7) (hfr : 2 ≤ M.2.2.2.1) (hlo : 81 ≤ M.2.2.2.2.1) (hcat : (st.map fun v => v.category).sum ≤ 8) (d : decode M.1 pc = .ok (.invokestatic 414, 3)) (k : xV (wC D P) K M Q (g, c1) (pc + 3) loc st) : xV (wC D P) K M Q (g, c) pc loc (.int x1 :: .int x0 :: st) :=
  yc_callS (As := [.int x0, .int x1]) (rest := st) (met_f_c_J6_checkIndex K.2.1 hf) (lw_S q1161 q1162 q187 q1163) hd_f_c_J6_checkIndex ho hfr hlo rfl rfl hcat d k
abbrev mJ7_checkIndex : xM := (cJ7_checkIndex, 2, RJ7, 2, 120, none, "checkIndex")
def f_c_J7_checkIndex (g : CG) (x0 : Int32) (x1 : Nat) (τ : CC) : Option CC :=
  xbd (f_c_J7_length g x1 τ) fun r1 τ1 =>
  (f_c_J6_checkIndex g x0 r1 τ1).bind fun τ2 =>
  some (τ2)
theorem ok_f_c_J7_checkIndex {D : CD} {P : CP} {K : xK} {g : CG} {Z : Option Value × CS} {x0 : Int32} {x1 : Nat} {τ : CC} {o_ : CC} (hf : f_c_J7_checkIndex g x0 x1 τ = some o_) (kr : ∀ r_ : CC, o_ = r_ → Z = (none, (g, r_))) : xV (wC D P) K mJ7_checkIndex (xQ (wC D P) K Z) (g, τ) 0 [(0, .int x0), (1, .ref x1)] [] := by
  unfold f_c_J7_checkIndex at hf
  refine xr_iload_n (pc := 0) 0 dJ7_checkIndex_0 rfl rfl ?_
  refine xr_aload_n (pc := 1) 1 dJ7_checkIndex_1 rfl rfl ?_
  obtain ⟨r1, τ1, hτ1, hf⟩ := xo_bd hf
  refine call_f_c_J7_length_J7_48 (pc := 2) hτ1 rfl (Nat.le_of_ble_eq_true rfl) (Nat.le_of_ble_eq_true rfl) (Nat.le_of_ble_eq_true rfl) dJ7_checkIndex_2 ?_
  obtain ⟨τ2, hτ2, hf⟩ := xo_bind hf
  refine call_f_c_J6_checkIndex_J7_414 (pc := 5) hτ2 rfl (Nat.le_of_ble_eq_true rfl) (Nat.le_of_ble_eq_true rfl) (Nat.le_of_ble_eq_true rfl) dJ7_checkIndex_5 ?_
  rw [kr _ (Option.some.inj hf).symm]
  exact xr_vret (pc := 8) dJ7_checkIndex_8 rfl
theorem met_f_c_J7_checkIndex (l : Launch) {D : CD} {P : CP} {g : CG} {x0 : Int32} {x1 : Nat} {τ : CC} {o_ : CC} (hf : f_c_J7_checkIndex g x0 x1 τ = some o_) : xMet (wC D P) l yJ7_checkIndex (ws_ yJ7_checkIndex cJ7_checkIndex 2 none) 2 120 (grc g) (grs g) [.int x0, .ref x1] (g, τ) (none, (g, o_)) := 
  xMet_of (by decide) (Nat.le_of_ble_eq_true rfl) KC_moved RPC_of (fun K _ _ _ => ok_f_c_J7_checkIndex hf (fun _ h => by rw [h]))
theorem hd_f_c_J7_checkIndex : yJ7_checkIndex.cls ≠ "java/lang/invoke/MethodHandle" ∧ yJ7_checkIndex.cls ≠ "java/lang/invoke/VarHandle" ∧ (parseMethodDescriptor yJ7_checkIndex.desc).map (fun d => d.parameters.length) = some 2 := by decide +kernel
theorem call_f_c_J7_checkIndex_J7_67 {D : CD} {P : CP} {K : xK} {M : xM} {Q : State → Prop} {g : CG} {c : CC} {x0 : Int32} {x1 : Nat} {pc : Nat} {loc : List (Nat × Value)} {st : List Value} {c1 : CC} (hf : f_c_J7_checkIndex g x0 x1 c = some c1) (ho : M.2.2.1 = RJ7) (hfr : 3 ≤ M.2.2.2.1) (hlo : 141 ≤ M.2.2.2.2.1) (hcat : (st.map fun v => v.category).sum ≤ 8) (d : decode M.1 pc = .ok (.invokestatic 67, 3)) (k : xV (wC D P) K M Q (g, c1) (pc + 3) loc st) : xV (wC D P) K M Q (g, c) pc loc (.ref x1 :: .int x0 :: st) :=
  yc_callS (As := [.int x0, .ref x1]) (rest := st) (met_f_c_J7_checkIndex K.2.1 hf) (lw_S q1158 q1159 q188 q1160) hd_f_c_J7_checkIndex ho hfr hlo rfl rfl hcat d k
theorem call_f_c_J7_getChar_J7_71 {D : CD} {P : CP} {K : xK} {M : xM} {Q : State → Prop} {g : CG} {c : CC} {x0 : Nat} {x1 : Int32} {pc : Nat} {loc : List (Nat × Value)} {st : List Value} {r : Int32} {c1 : CC} (hf : f_c_J7_getChar g x0 x1 c = some (r, c1)) (ho : M.2.2.1 = RJ7) (hfr : 2 ≤ M.2.2.2.1) (hlo : 81 ≤ M.2.2.2.2.1) (hcat : (st.map fun v => v.category).sum ≤ 8) (d : decode M.1 pc = .ok (.invokestatic 71, 3)) (k : xV (wC D P) K M Q (g, c1) (pc + 3) loc (.int r :: st)) : xV (wC D P) K M Q (g, c) pc loc (.int x1 :: .ref x0 :: st) :=
  yc_callS (As := [.ref x0, .int x1]) (rest := st) (met_f_c_J7_getChar K.2.1 hf) (lw_S q667 q668 q188 q669) hd_f_c_J7_getChar ho hfr hlo rfl rfl hcat d k
abbrev mJ7_charAt : xM := (cJ7_charAt, 2, RJ7, 3, 180, (some .char), "charAt")
def f_c_J7_charAt (g : CG) (x0 : Nat) (x1 : Int32) (τ : CC) : Option (Int32 × CC) :=
  (f_c_J7_checkIndex g x1 x0 τ).bind fun τ1 =>
  xbd (f_c_J7_getChar g x0 x1 τ1) fun r2 τ2 =>
  some ((r2.toUInt32.toUInt16.toUInt32.toInt32, τ2))
theorem ok_f_c_J7_charAt {D : CD} {P : CP} {K : xK} {g : CG} {Z : Option Value × CS} {x0 : Nat} {x1 : Int32} {τ : CC} {o_ : (Int32 × CC)} (hf : f_c_J7_charAt g x0 x1 τ = some o_) (kr : ∀ r_ : (Int32 × CC), o_ = r_ → Z = (some (.int r_.1), (g, r_.2))) : xV (wC D P) K mJ7_charAt (xQ (wC D P) K Z) (g, τ) 0 [(0, .ref x0), (1, .int x1)] [] := by
  unfold f_c_J7_charAt at hf
  refine xr_iload_n (pc := 0) 1 dJ7_charAt_0 rfl rfl ?_
  refine xr_aload_n (pc := 1) 0 dJ7_charAt_1 rfl rfl ?_
  obtain ⟨τ1, hτ1, hf⟩ := xo_bind hf
  refine call_f_c_J7_checkIndex_J7_67 (pc := 2) hτ1 rfl (Nat.le_of_ble_eq_true rfl) (Nat.le_of_ble_eq_true rfl) (Nat.le_of_ble_eq_true rfl) dJ7_charAt_2 ?_
  refine xr_aload_n (pc := 5) 0 dJ7_charAt_5 rfl rfl ?_
  refine xr_iload_n (pc := 6) 1 dJ7_charAt_6 rfl rfl ?_
  obtain ⟨r2, τ2, hτ2, hf⟩ := xo_bd hf
  refine call_f_c_J7_getChar_J7_71 (pc := 7) hτ2 rfl (Nat.le_of_ble_eq_true rfl) (Nat.le_of_ble_eq_true rfl) (Nat.le_of_ble_eq_true rfl) dJ7_charAt_7 ?_
  rw [kr _ (Option.some.inj hf).symm]
  exact xr_cret (pc := 10) dJ7_charAt_10 rfl rfl
theorem met_f_c_J7_charAt (l : Launch) {D : CD} {P : CP} {g : CG} {x0 : Nat} {x1 : Int32} {τ : CC} {o_ : (Int32 × CC)} (hf : f_c_J7_charAt g x0 x1 τ = some o_) : xMet (wC D P) l yJ7_charAt (ws_ yJ7_charAt cJ7_charAt 2 (some .char)) 3 180 (grc g) (grs g) [.ref x0, .int x1] (g, τ) (some (.int o_.1), (g, o_.2)) := 
  xMet_of (by decide) (Nat.le_of_ble_eq_true rfl) KC_moved RPC_of (fun K _ _ _ => ok_f_c_J7_charAt hf (fun _ h => by rw [h]))
theorem hd_f_c_J6_isLatin1 : yJ6_isLatin1.cls ≠ "java/lang/invoke/MethodHandle" ∧ yJ6_isLatin1.cls ≠ "java/lang/invoke/VarHandle" ∧ (parseMethodDescriptor yJ6_isLatin1.desc).map (fun d => d.parameters.length) = some 0 := by decide +kernel
theorem call_f_c_J6_isLatin1_J6_492 {D : CD} {P : CP} {K : xK} {M : xM} {Q : State → Prop} {g : CG} {c : CC} {x0 : Nat} {pc : Nat} {loc : List (Nat × Value)} {st : List Value} {r : Int32} {c1 : CC} (hf : f_c_J6_isLatin1 g x0 c = some (r, c1)) (hr : gK g x0 = 19) (ho : M.2.2.1 = RJ6) (hfr : 1 ≤ M.2.2.2.1) (hlo : 20 ≤ M.2.2.2.2.1) (hcat : (st.map fun v => v.category).sum ≤ 8) (d : decode M.1 pc = .ok (.invokevirtual 492, 3)) (k : xV (wC D P) K M Q (g, c1) (pc + 3) loc (.int r :: st)) : xV (wC D P) K M Q (g, c) pc loc (.ref x0 :: st) :=
  yc_callV (As := []) (rest := st) (met_f_c_J6_isLatin1 K.2.1 hf) (lw_V q738 q739 q740 q187 q741) ⟨rfl, hd_f_c_J6_isLatin1⟩ ho hfr hlo rfl hr (by decide) (by decide) rfl rfl hcat d k
theorem hd_f_c_J7_charAt : yJ7_charAt.cls ≠ "java/lang/invoke/MethodHandle" ∧ yJ7_charAt.cls ≠ "java/lang/invoke/VarHandle" ∧ (parseMethodDescriptor yJ7_charAt.desc).map (fun d => d.parameters.length) = some 2 := by decide +kernel
theorem call_f_c_J7_charAt_J6_498 {D : CD} {P : CP} {K : xK} {M : xM} {Q : State → Prop} {g : CG} {c : CC} {x0 : Nat} {x1 : Int32} {pc : Nat} {loc : List (Nat × Value)} {st : List Value} {r : Int32} {c1 : CC} (hf : f_c_J7_charAt g x0 x1 c = some (r, c1)) (ho : M.2.2.1 = RJ6) (hfr : 4 ≤ M.2.2.2.1) (hlo : 201 ≤ M.2.2.2.2.1) (hcat : (st.map fun v => v.category).sum ≤ 8) (d : decode M.1 pc = .ok (.invokestatic 498, 3)) (k : xV (wC D P) K M Q (g, c1) (pc + 3) loc (.int r :: st)) : xV (wC D P) K M Q (g, c) pc loc (.int x1 :: .ref x0 :: st) :=
  yc_callS (As := [.ref x0, .int x1]) (rest := st) (met_f_c_J7_charAt K.2.1 hf) (lw_S q1413 q1414 q188 q1415) hd_f_c_J7_charAt ho hfr hlo rfl rfl hcat d k
theorem hd_f_c_J9_charAt : yJ9_charAt.cls ≠ "java/lang/invoke/MethodHandle" ∧ yJ9_charAt.cls ≠ "java/lang/invoke/VarHandle" ∧ (parseMethodDescriptor yJ9_charAt.desc).map (fun d => d.parameters.length) = some 2 := by decide +kernel
theorem call_f_c_J9_charAt_J6_495 {D : CD} {P : CP} {K : xK} {M : xM} {Q : State → Prop} {g : CG} {c : CC} {x0 : Nat} {x1 : Int32} {pc : Nat} {loc : List (Nat × Value)} {st : List Value} {r : Int32} {c1 : CC} (hf : f_c_J9_charAt g x0 x1 c = some (r, c1)) (ho : M.2.2.1 = RJ6) (hfr : 3 ≤ M.2.2.2.1) (hlo : 141 ≤ M.2.2.2.2.1) (hcat : (st.map fun v => v.category).sum ≤ 8) (d : decode M.1 pc = .ok (.invokestatic 495, 3)) (k : xV (wC D P) K M Q (g, c1) (pc + 3) loc (.int r :: st)) : xV (wC D P) K M Q (g, c) pc loc (.int x1 :: .ref x0 :: st) :=
  yc_callS (As := [.ref x0, .int x1]) (rest := st) (met_f_c_J9_charAt K.2.1 hf) (lw_S q1409 q1410 q190 q1411) hd_f_c_J9_charAt ho hfr hlo rfl rfl hcat d k
abbrev mJ6_charAt : xM := (cJ6_charAt, 2, RJ6, 4, 240, (some .char), "charAt")
def f_c_J6_charAt (g : CG) (x0 : Nat) (x1 : Int32) (τ : CC) : Option (Int32 × CC) :=
  if gK g x0 = 19 then
  xbd (f_c_J6_isLatin1 g x0 τ) fun r2 τ2 =>
  if r2 = 0 then
  (gR g 1900 x0).bind fun b3 =>
  xbd (f_c_J7_charAt g b3 x1 τ2) fun r4 τ4 =>
  some ((r4.toUInt32.toUInt16.toUInt32.toInt32, τ4))
  else
  (gR g 1900 x0).bind fun b5 =>
  xbd (f_c_J9_charAt g b5 x1 τ2) fun r6 τ6 =>
  some ((r6.toUInt32.toUInt16.toUInt32.toInt32, τ6))
  else none
theorem ok_f_c_J6_charAt {D : CD} {P : CP} {K : xK} {g : CG} {Z : Option Value × CS} {x0 : Nat} {x1 : Int32} {τ : CC} {o_ : (Int32 × CC)} (hf : f_c_J6_charAt g x0 x1 τ = some o_) (kr : ∀ r_ : (Int32 × CC), o_ = r_ → Z = (some (.int r_.1), (g, r_.2))) : xV (wC D P) K mJ6_charAt (xQ (wC D P) K Z) (g, τ) 0 [(0, .ref x0), (1, .int x1)] [] := by
  unfold f_c_J6_charAt at hf
  refine xr_aload_n (pc := 0) 0 dJ6_charAt_0 rfl rfl ?_
  obtain ⟨ht1, hf⟩ := xo_if hf
  obtain ⟨r2, τ2, hτ2, hf⟩ := xo_bd hf
  refine call_f_c_J6_isLatin1_J6_492 (pc := 1) hτ2 ht1 rfl (Nat.le_of_ble_eq_true rfl) (Nat.le_of_ble_eq_true rfl) (Nat.le_of_ble_eq_true rfl) dJ6_charAt_1 ?_
  refine xr_if_eq (pc := 4) 16 dJ6_charAt_4 (by decide) (fun c_ => ?_) (fun c_ => ?_)
  · have hf := xo_pos c_ hf
    refine xr_aload_n (pc := 16) 0 dJ6_charAt_16 rfl rfl ?_
    obtain ⟨b3, hb3, hf⟩ := xo_bind hf
    refine yc_getFs (pc := 17) 19 0 1900 ht1 (by decide) (by decide) (by decide) rfl rfl hb3 q688 (ys_eq rfl) rfl dJ6_charAt_17 ?_
    refine xr_iload_n (pc := 20) 1 dJ6_charAt_20 rfl rfl ?_
    obtain ⟨r4, τ4, hτ4, hf⟩ := xo_bd hf
    refine call_f_c_J7_charAt_J6_498 (pc := 21) hτ4 rfl (Nat.le_of_ble_eq_true rfl) (Nat.le_of_ble_eq_true rfl) (Nat.le_of_ble_eq_true rfl) dJ6_charAt_21 ?_
    rw [kr _ (Option.some.inj hf).symm]
    exact xr_cret (pc := 24) dJ6_charAt_24 rfl rfl
  · have hf := xo_neg c_ hf
    refine xr_aload_n (pc := 7) 0 dJ6_charAt_7 rfl rfl ?_
    obtain ⟨b5, hb5, hf⟩ := xo_bind hf
    refine yc_getFs (pc := 8) 19 0 1900 ht1 (by decide) (by decide) (by decide) rfl rfl hb5 q688 (ys_eq rfl) rfl dJ6_charAt_8 ?_
    refine xr_iload_n (pc := 11) 1 dJ6_charAt_11 rfl rfl ?_
    obtain ⟨r6, τ6, hτ6, hf⟩ := xo_bd hf
    refine call_f_c_J9_charAt_J6_495 (pc := 12) hτ6 rfl (Nat.le_of_ble_eq_true rfl) (Nat.le_of_ble_eq_true rfl) (Nat.le_of_ble_eq_true rfl) dJ6_charAt_12 ?_
    rw [kr _ (Option.some.inj hf).symm]
    exact xr_cret (pc := 15) dJ6_charAt_15 rfl rfl
theorem met_f_c_J6_charAt (l : Launch) {D : CD} {P : CP} {g : CG} {x0 : Nat} {x1 : Int32} {τ : CC} {o_ : (Int32 × CC)} (hf : f_c_J6_charAt g x0 x1 τ = some o_) : xMet (wC D P) l yJ6_charAt (ws_ yJ6_charAt cJ6_charAt 2 (some .char)) 4 240 (grc g) (grs g) [.ref x0, .int x1] (g, τ) (some (.int o_.1), (g, o_.2)) := 
  xMet_of (by decide) (Nat.le_of_ble_eq_true rfl) KC_moved RPC_of (fun K _ _ _ => ok_f_c_J6_charAt hf (fun _ h => by rw [h]))
theorem hd_f_c_J6_length : yJ6_length.cls ≠ "java/lang/invoke/MethodHandle" ∧ yJ6_length.cls ≠ "java/lang/invoke/VarHandle" ∧ (parseMethodDescriptor yJ6_length.desc).map (fun d => d.parameters.length) = some 0 := by decide +kernel
theorem call_f_c_J6_length_X7_29 {D : CD} {P : CP} {K : xK} {M : xM} {Q : State → Prop} {g : CG} {c : CC} {x0 : Nat} {pc : Nat} {loc : List (Nat × Value)} {st : List Value} {r : Int32} {c1 : CC} (hf : f_c_J6_length g x0 c = some (r, c1)) (hr : gK g x0 = 19) (ho : M.2.2.1 = RX7) (hfr : 2 ≤ M.2.2.2.1) (hlo : 80 ≤ M.2.2.2.2.1) (hcat : (st.map fun v => v.category).sum ≤ 8) (d : decode M.1 pc = .ok (.invokevirtual 29, 3)) (k : xV (wC D P) K M Q (g, c1) (pc + 3) loc (.int r :: st)) : xV (wC D P) K M Q (g, c) pc loc (.ref x0 :: st) :=
  yc_callV (As := []) (rest := st) (met_f_c_J6_length K.2.1 hf) (lw_V q1404 q824 q825 q187 q826) ⟨rfl, hd_f_c_J6_length⟩ ho hfr hlo rfl hr (by decide) (by decide) rfl rfl hcat d k
theorem hd_f_c_J6_charAt : yJ6_charAt.cls ≠ "java/lang/invoke/MethodHandle" ∧ yJ6_charAt.cls ≠ "java/lang/invoke/VarHandle" ∧ (parseMethodDescriptor yJ6_charAt.desc).map (fun d => d.parameters.length) = some 1 := by decide +kernel
theorem call_f_c_J6_charAt_X7_35 {D : CD} {P : CP} {K : xK} {M : xM} {Q : State → Prop} {g : CG} {c : CC} {x0 : Nat} {x1 : Int32} {pc : Nat} {loc : List (Nat × Value)} {st : List Value} {r : Int32} {c1 : CC} (hf : f_c_J6_charAt g x0 x1 c = some (r, c1)) (hr : gK g x0 = 19) (ho : M.2.2.1 = RX7) (hfr : 5 ≤ M.2.2.2.1) (hlo : 261 ≤ M.2.2.2.2.1) (hcat : (st.map fun v => v.category).sum ≤ 8) (d : decode M.1 pc = .ok (.invokevirtual 35, 3)) (k : xV (wC D P) K M Q (g, c1) (pc + 3) loc (.int r :: st)) : xV (wC D P) K M Q (g, c) pc loc (.int x1 :: .ref x0 :: st) :=
  yc_callV (As := [.int x1]) (rest := st) (met_f_c_J6_charAt K.2.1 hf) (lw_V q1405 q1406 q1407 q187 q1408) ⟨rfl, hd_f_c_J6_charAt⟩ ho hfr hlo rfl hr (by decide) (by decide) rfl rfl hcat d k
abbrev mX7_letter : xM := (cX7_letter, 2, RX7, 5, 300, (some .int), "letter")
def f_c_X7_letter (g : CG) (x0 : Nat) (x1 : Int32) (τ : CC) : Option (Int32 × CC) :=
  if gT g x0 = 7 then
  (gR g 700 x0).bind fun b2 =>
  if gK g b2 = 19 then
  xbd (f_c_J6_length g b2 τ) fun r4 τ4 =>
  if r4 ≤ x1 then
  some ((0, τ4))
  else
  xbd (f_c_J6_charAt g b2 x1 τ4) fun r5 τ5 =>
  some (((r5 - 97) + 1, τ5))
  else none
  else none
theorem ok_f_c_X7_letter {D : CD} {P : CP} {K : xK} {g : CG} {Z : Option Value × CS} {x0 : Nat} {x1 : Int32} {τ : CC} {o_ : (Int32 × CC)} (hf : f_c_X7_letter g x0 x1 τ = some o_) (kr : ∀ r_ : (Int32 × CC), o_ = r_ → Z = (some (.int r_.1), (g, r_.2))) : xV (wC D P) K mX7_letter (xQ (wC D P) K Z) (g, τ) 0 [(0, .ref x0), (1, .int x1)] [] := by
  unfold f_c_X7_letter at hf
  refine xr_iload_n (pc := 0) 1 dX7_letter_0 rfl rfl ?_
  refine xr_aload_n (pc := 1) 0 dX7_letter_1 rfl rfl ?_
  obtain ⟨ht1, hf⟩ := xo_if hf
  obtain ⟨b2, hb2, hf⟩ := xo_bind hf
  refine yc_getFs (pc := 2) 7 0 700 (gKo ht1 (by decide)) (by decide) (by decide) (by decide) rfl rfl hb2 q869 (ys_eq rfl) rfl dX7_letter_2 ?_
  obtain ⟨ht3, hf⟩ := xo_if hf
  obtain ⟨r4, τ4, hτ4, hf⟩ := xo_bd hf
  refine call_f_c_J6_length_X7_29 (pc := 5) hτ4 ht3 rfl (Nat.le_of_ble_eq_true rfl) (Nat.le_of_ble_eq_true rfl) (Nat.le_of_ble_eq_true rfl) dX7_letter_5 ?_
  refine xr_icmp_ge (pc := 8) 27 dX7_letter_8 (by decide) (fun c_ => ?_) (fun c_ => ?_)
  · have hf := xo_pos c_ hf
    refine xr_iconst (pc := 27) dX7_letter_27 xci_0 ?_
    rw [kr _ (Option.some.inj hf).symm]
    exact xr_iret (pc := 28) dX7_letter_28 rfl
  · have hf := xo_neg c_ hf
    refine xr_aload_n (pc := 11) 0 dX7_letter_11 rfl rfl ?_
    refine yc_getFs (pc := 12) 7 0 700 (gKo ht1 (by decide)) (by decide) (by decide) (by decide) rfl rfl hb2 q869 (ys_eq rfl) rfl dX7_letter_12 ?_
    refine xr_iload_n (pc := 15) 1 dX7_letter_15 rfl rfl ?_
    obtain ⟨r5, τ5, hτ5, hf⟩ := xo_bd hf
    refine call_f_c_J6_charAt_X7_35 (pc := 16) hτ5 ht3 rfl (Nat.le_of_ble_eq_true rfl) (Nat.le_of_ble_eq_true rfl) (Nat.le_of_ble_eq_true rfl) dX7_letter_16 ?_
    refine xr_bipush (pc := 19) dX7_letter_19 xcb_97 ?_
    refine xr_isub (pc := 21) dX7_letter_21 ?_
    refine xr_iconst (pc := 22) dX7_letter_22 xci_1 ?_
    refine xr_iadd (pc := 23) dX7_letter_23 ?_
    refine xr_goto (pc := 24) 28 dX7_letter_24 (by decide) ?_
    rw [kr _ (Option.some.inj hf).symm]
    exact xr_iret (pc := 28) dX7_letter_28 rfl
theorem met_f_c_X7_letter (l : Launch) {D : CD} {P : CP} {g : CG} {x0 : Nat} {x1 : Int32} {τ : CC} {o_ : (Int32 × CC)} (hf : f_c_X7_letter g x0 x1 τ = some o_) : xMet (wC D P) l yX7_letter (ws_ yX7_letter cX7_letter 2 (some .int)) 5 300 (grc g) (grs g) [.ref x0, .int x1] (g, τ) (some (.int o_.1), (g, o_.2)) := 
  xMet_of (by decide) (Nat.le_of_ble_eq_true rfl) KC_moved RPC_of (fun K _ _ _ => ok_f_c_X7_letter hf (fun _ h => by rw [h]))
theorem hd_f_c_X0_isLord : yX0_isLord.cls ≠ "java/lang/invoke/MethodHandle" ∧ yX0_isLord.cls ≠ "java/lang/invoke/VarHandle" ∧ (parseMethodDescriptor yX0_isLord.desc).map (fun d => d.parameters.length) = some 1 := by decide +kernel
theorem call_f_c_X0_isLord_X0_228 {D : CD} {P : CP} {K : xK} {M : xM} {Q : State → Prop} {g : CG} {c : CC} {x0 : Nat} {x1 : Int32} {pc : Nat} {loc : List (Nat × Value)} {st : List Value} {r : Int32} {c1 : CC} (hf : f_c_X0_isLord g x0 x1 c = some (r, c1)) (hr : gK g x0 = 1) (ho : M.2.2.1 = RX0) (hfr : 3 ≤ M.2.2.2.1) (hlo : 141 ≤ M.2.2.2.2.1) (hcat : (st.map fun v => v.category).sum ≤ 8) (d : decode M.1 pc = .ok (.invokevirtual 228, 3)) (k : xV (wC D P) K M Q (g, c1) (pc + 3) loc (.int r :: st)) : xV (wC D P) K M Q (g, c) pc loc (.int x1 :: .ref x0 :: st) :=
  yc_callV (As := [.int x1]) (rest := st) (met_f_c_X0_isLord K.2.1 hf) (lw_V q1394 q1396 qs40 q174 q1397) ⟨rfl, hd_f_c_X0_isLord⟩ ho hfr hlo rfl hr (by decide) (by decide) rfl rfl hcat d k
theorem hd_f_c_X0_lordOf : yX0_lordOf.cls ≠ "java/lang/invoke/MethodHandle" ∧ yX0_lordOf.cls ≠ "java/lang/invoke/VarHandle" ∧ (parseMethodDescriptor yX0_lordOf.desc).map (fun d => d.parameters.length) = some 1 := by decide +kernel
theorem call_f_c_X0_lordOf_X0_231 {D : CD} {P : CP} {K : xK} {M : xM} {Q : State → Prop} {g : CG} {c : CC} {x0 : Nat} {x1 : Int32} {pc : Nat} {loc : List (Nat × Value)} {st : List Value} {r : Nat} {c1 : CC} (hf : f_c_X0_lordOf g x0 x1 c = some (r, c1)) (hr : gK g x0 = 1) (ho : M.2.2.1 = RX0) (hfr : 4 ≤ M.2.2.2.1) (hlo : 201 ≤ M.2.2.2.2.1) (hcat : (st.map fun v => v.category).sum ≤ 8) (d : decode M.1 pc = .ok (.invokevirtual 231, 3)) (k : xV (wC D P) K M Q (g, c1) (pc + 3) loc (.ref r :: st)) : xV (wC D P) K M Q (g, c) pc loc (.int x1 :: .ref x0 :: st) :=
  yc_callV (As := [.int x1]) (rest := st) (met_f_c_X0_lordOf K.2.1 hf) (lw_V q1399 q1255 qs35 q174 q1256) ⟨rfl, hd_f_c_X0_lordOf⟩ ho hfr hlo rfl hr (by decide) (by decide) rfl rfl hcat d k
theorem hd_f_c_X7_letter : yX7_letter.cls ≠ "java/lang/invoke/MethodHandle" ∧ yX7_letter.cls ≠ "java/lang/invoke/VarHandle" ∧ (parseMethodDescriptor yX7_letter.desc).map (fun d => d.parameters.length) = some 1 := by decide +kernel
theorem call_f_c_X7_letter_X0_235 {D : CD} {P : CP} {K : xK} {M : xM} {Q : State → Prop} {g : CG} {c : CC} {x0 : Nat} {x1 : Int32} {pc : Nat} {loc : List (Nat × Value)} {st : List Value} {r : Int32} {c1 : CC} (hf : f_c_X7_letter g x0 x1 c = some (r, c1)) (hr : gK g x0 = 7) (ho : M.2.2.1 = RX0) (hfr : 6 ≤ M.2.2.2.1) (hlo : 321 ≤ M.2.2.2.2.1) (hcat : (st.map fun v => v.category).sum ≤ 8) (d : decode M.1 pc = .ok (.invokevirtual 235, 3)) (k : xV (wC D P) K M Q (g, c1) (pc + 3) loc (.int r :: st)) : xV (wC D P) K M Q (g, c) pc loc (.int x1 :: .ref x0 :: st) :=
  yc_callV (As := [.int x1]) (rest := st) (met_f_c_X7_letter K.2.1 hf) (lw_V q1400 q1401 q1402 q193 q1403) ⟨rfl, hd_f_c_X7_letter⟩ ho hfr hlo rfl hr (by decide) (by decide) rfl rfl hcat d k
abbrev mX0_letter : xM := (cX0_letter, 3, RX0, 6, 360, (some .int), "letter")
def Jc_X0_letter_29 (g : CG) (τ : CC) : Option (Int32 × CC) :=
  some (((-1), τ))
theorem ok_Jc_X0_letter_29 {D : CD} {P : CP} {K : xK} {g : CG} {Z : Option Value × CS} {τ : CC} {o_ : (Int32 × CC)} (hf : Jc_X0_letter_29 g τ = some o_) (kr : ∀ r_ : (Int32 × CC), o_ = r_ → Z = (some (.int r_.1), (g, r_.2))) : xV (wC D P) K mX0_letter (xQ (wC D P) K Z) (g, τ) 29 [] [] := by
  unfold Jc_X0_letter_29 at hf
  refine xr_iconst (pc := 29) dX0_letter_29 xci_m1 ?_
  rw [kr _ (Option.some.inj hf).symm]
  exact xr_iret (pc := 30) dX0_letter_30 rfl
def f_c_X0_letter (g : CG) (x0 : Nat) (x1 : Int32) (x2 : Int32) (τ : CC) : Option (Int32 × CC) :=
  if gT g x0 = 1 then
  xbd (f_c_X0_isLord g x0 x1 τ) fun r2 τ2 =>
  if r2 = 0 then
  Jc_X0_letter_29 g τ2
  else
  xbd (f_c_X0_is g x2 0 5 τ2) fun r3 τ3 =>
  if r3 = 0 then
  Jc_X0_letter_29 g τ3
  else
  xbd (f_c_X0_lordOf g x0 x1 τ3) fun r4 τ4 =>
  if gT g r4 = 7 then
  xbd (f_c_X7_letter g r4 x2 τ4) fun r6 τ6 =>
  some ((r6, τ6))
  else none
  else none
theorem ok_f_c_X0_letter {D : CD} {P : CP} {K : xK} {g : CG} {Z : Option Value × CS} {x0 : Nat} {x1 : Int32} {x2 : Int32} {τ : CC} {o_ : (Int32 × CC)} (hf : f_c_X0_letter g x0 x1 x2 τ = some o_) (kr : ∀ r_ : (Int32 × CC), o_ = r_ → Z = (some (.int r_.1), (g, r_.2))) : xV (wC D P) K mX0_letter (xQ (wC D P) K Z) (g, τ) 0 [(0, .ref x0), (1, .int x1), (2, .int x2)] [] := by
  unfold f_c_X0_letter at hf
  refine xr_aload_n (pc := 0) 0 dX0_letter_0 rfl rfl ?_
  refine xr_iload_n (pc := 1) 1 dX0_letter_1 rfl rfl ?_
  obtain ⟨ht1, hf⟩ := xo_if hf
  obtain ⟨r2, τ2, hτ2, hf⟩ := xo_bd hf
  refine call_f_c_X0_isLord_X0_228 (pc := 2) hτ2 (gKo ht1 (by decide)) rfl (Nat.le_of_ble_eq_true rfl) (Nat.le_of_ble_eq_true rfl) (Nat.le_of_ble_eq_true rfl) dX0_letter_2 ?_
  refine xr_if_eq (pc := 5) 29 dX0_letter_5 (by decide) (fun c_ => ?_) (fun c_ => ?_)
  · have hf := xo_pos c_ hf
    refine xV_sub [] rfl ?_
    exact ok_Jc_X0_letter_29 hf kr
  · have hf := xo_neg c_ hf
    refine xr_iload_n (pc := 8) 2 dX0_letter_8 rfl rfl ?_
    refine xr_iconst (pc := 9) dX0_letter_9 xci_0 ?_
    refine xr_iconst (pc := 10) dX0_letter_10 xci_5 ?_
    obtain ⟨r3, τ3, hτ3, hf⟩ := xo_bd hf
    refine call_f_c_X0_is_X0_176 (pc := 11) hτ3 rfl (Nat.le_of_ble_eq_true rfl) (Nat.le_of_ble_eq_true rfl) (Nat.le_of_ble_eq_true rfl) dX0_letter_11 ?_
    refine xr_if_eq (pc := 14) 29 dX0_letter_14 (by decide) (fun c_ => ?_) (fun c_ => ?_)
    · have hf := xo_pos c_ hf
      refine xV_sub [] rfl ?_
      exact ok_Jc_X0_letter_29 hf kr
    · have hf := xo_neg c_ hf
      refine xr_aload_n (pc := 17) 0 dX0_letter_17 rfl rfl ?_
      refine xr_iload_n (pc := 18) 1 dX0_letter_18 rfl rfl ?_
      obtain ⟨r4, τ4, hτ4, hf⟩ := xo_bd hf
      refine call_f_c_X0_lordOf_X0_231 (pc := 19) hτ4 (gKo ht1 (by decide)) rfl (Nat.le_of_ble_eq_true rfl) (Nat.le_of_ble_eq_true rfl) (Nat.le_of_ble_eq_true rfl) dX0_letter_19 ?_
      refine xr_iload_n (pc := 22) 2 dX0_letter_22 rfl rfl ?_
      obtain ⟨ht5, hf⟩ := xo_if hf
      obtain ⟨r6, τ6, hτ6, hf⟩ := xo_bd hf
      refine call_f_c_X7_letter_X0_235 (pc := 23) hτ6 (gKo ht5 (by decide)) rfl (Nat.le_of_ble_eq_true rfl) (Nat.le_of_ble_eq_true rfl) (Nat.le_of_ble_eq_true rfl) dX0_letter_23 ?_
      refine xr_goto (pc := 26) 30 dX0_letter_26 (by decide) ?_
      rw [kr _ (Option.some.inj hf).symm]
      exact xr_iret (pc := 30) dX0_letter_30 rfl
theorem met_f_c_X0_letter (l : Launch) {D : CD} {P : CP} {g : CG} {x0 : Nat} {x1 : Int32} {x2 : Int32} {τ : CC} {o_ : (Int32 × CC)} (hf : f_c_X0_letter g x0 x1 x2 τ = some o_) : xMet (wC D P) l yX0_letter (ws_ yX0_letter cX0_letter 3 (some .int)) 6 360 (grc g) (grs g) [.ref x0, .int x1, .int x2] (g, τ) (some (.int o_.1), (g, o_.2)) := 
  xMet_of (by decide) (Nat.le_of_ble_eq_true rfl) KC_moved RPC_of (fun K _ _ _ => ok_f_c_X0_letter hf (fun _ h => by rw [h]))
theorem call_f_c_X0_is_X7_39 {D : CD} {P : CP} {K : xK} {M : xM} {Q : State → Prop} {g : CG} {c : CC} {x0 : Int32} {x1 : Int32} {x2 : Int32} {pc : Nat} {loc : List (Nat × Value)} {st : List Value} {r : Int32} {c1 : CC} (hf : f_c_X0_is g x0 x1 x2 c = some (r, c1)) (ho : M.2.2.1 = RX7) (hfr : 1 ≤ M.2.2.2.1) (hlo : 22 ≤ M.2.2.2.2.1) (hcat : (st.map fun v => v.category).sum ≤ 8) (d : decode M.1 pc = .ok (.invokestatic 39, 3)) (k : xV (wC D P) K M Q (g, c1) (pc + 3) loc (.int r :: st)) : xV (wC D P) K M Q (g, c) pc loc (.int x2 :: .int x1 :: .int x0 :: st) :=
  yc_callSN (As := [.int x0, .int x1, .int x2]) (rest := st) (met_f_c_X0_is K.2.1 hf) (lw_meth q715) q1433 q714 q174 hd_f_c_X0_is ho hfr hlo rfl rfl hcat d k
abbrev mX7_isOf : xM := (cX7_isOf, 2, RX7, 1, 60, (some .boolean), "isOf")
def f_c_X7_isOf (g : CG) (x0 : Nat) (x1 : Int32) (τ : CC) : Option (Int32 × CC) :=
  if gT g x0 = 7 then
  xbd (f_c_X0_is g x1 (cI τ 701 x0) (cI τ 702 x0) τ) fun r2 τ2 =>
  some ((r2 &&& 1, τ2))
  else none
theorem ok_f_c_X7_isOf {D : CD} {P : CP} {K : xK} {g : CG} {Z : Option Value × CS} {x0 : Nat} {x1 : Int32} {τ : CC} {o_ : (Int32 × CC)} (hf : f_c_X7_isOf g x0 x1 τ = some o_) (kr : ∀ r_ : (Int32 × CC), o_ = r_ → Z = (some (.int r_.1), (g, r_.2))) : xV (wC D P) K mX7_isOf (xQ (wC D P) K Z) (g, τ) 0 [(0, .ref x0), (1, .int x1)] [] := by
  unfold f_c_X7_isOf at hf
  refine xr_iload_n (pc := 0) 1 dX7_isOf_0 rfl rfl ?_
  refine xr_aload_n (pc := 1) 0 dX7_isOf_1 rfl rfl ?_
  obtain ⟨ht1, hf⟩ := xo_if hf
  refine yc_getI (pc := 2) 7 1 701 (gKo ht1 (by decide)) (by decide) (by decide) (by decide) rfl rfl q871 (ys_eq rfl) rfl dX7_isOf_2 ?_
  refine xr_aload_n (pc := 5) 0 dX7_isOf_5 rfl rfl ?_
  refine yc_getI (pc := 6) 7 2 702 (gKo ht1 (by decide)) (by decide) (by decide) (by decide) rfl rfl q874 (ys_eq rfl) rfl dX7_isOf_6 ?_
  obtain ⟨r2, τ2, hτ2, hf⟩ := xo_bd hf
  refine call_f_c_X0_is_X7_39 (pc := 9) hτ2 rfl (Nat.le_of_ble_eq_true rfl) (Nat.le_of_ble_eq_true rfl) (Nat.le_of_ble_eq_true rfl) dX7_isOf_9 ?_
  rw [kr _ (Option.some.inj hf).symm]
  exact xr_zret (pc := 12) dX7_isOf_12 rfl rfl
theorem met_f_c_X7_isOf (l : Launch) {D : CD} {P : CP} {g : CG} {x0 : Nat} {x1 : Int32} {τ : CC} {o_ : (Int32 × CC)} (hf : f_c_X7_isOf g x0 x1 τ = some o_) : xMet (wC D P) l yX7_isOf (ws_ yX7_isOf cX7_isOf 2 (some .boolean)) 1 60 (grc g) (grs g) [.ref x0, .int x1] (g, τ) (some (.int o_.1), (g, o_.2)) := 
  xMet_of (by decide) (Nat.le_of_ble_eq_true rfl) KC_moved RPC_of (fun K _ _ _ => ok_f_c_X7_isOf hf (fun _ h => by rw [h]))
theorem call_f_c_X0_lordOf_X5_64 {D : CD} {P : CP} {K : xK} {M : xM} {Q : State → Prop} {g : CG} {c : CC} {x0 : Nat} {x1 : Int32} {pc : Nat} {loc : List (Nat × Value)} {st : List Value} {r : Nat} {c1 : CC} (hf : f_c_X0_lordOf g x0 x1 c = some (r, c1)) (hr : gK g x0 = 1) (ho : M.2.2.1 = RX5) (hfr : 4 ≤ M.2.2.2.1) (hlo : 201 ≤ M.2.2.2.2.1) (hcat : (st.map fun v => v.category).sum ≤ 8) (d : decode M.1 pc = .ok (.invokevirtual 64, 3)) (k : xV (wC D P) K M Q (g, c1) (pc + 3) loc (.ref r :: st)) : xV (wC D P) K M Q (g, c) pc loc (.int x1 :: .ref x0 :: st) :=
  yc_callVN (As := [.int x1]) (rest := st) (met_f_c_X0_lordOf K.2.1 hf) (lw_meth q1256) q1253 q1255 qs35 q174 ⟨rfl, hd_f_c_X0_lordOf⟩ ho hfr hlo rfl hr (by decide) (by decide) rfl rfl hcat d k
abbrev mX5_offer : xM := (cX5_offer, 2, RX5, 4, 240, (some .int), "offer")
def Jc_X5_offer_43 (g : CG) (τ : CC) : Option (Int32 × CC) :=
  some ((0, τ))
theorem ok_Jc_X5_offer_43 {D : CD} {P : CP} {K : xK} {g : CG} {Z : Option Value × CS} {τ : CC} {o_ : (Int32 × CC)} (hf : Jc_X5_offer_43 g τ = some o_) (kr : ∀ r_ : (Int32 × CC), o_ = r_ → Z = (some (.int r_.1), (g, r_.2))) : xV (wC D P) K mX5_offer (xQ (wC D P) K Z) (g, τ) 43 [] [] := by
  unfold Jc_X5_offer_43 at hf
  refine xr_iconst (pc := 43) dX5_offer_43 xci_0 ?_
  rw [kr _ (Option.some.inj hf).symm]
  exact xr_iret (pc := 44) dX5_offer_44 rfl
def f_c_X5_offer (g : CG) (x0 : Nat) (x1 : Int32) (τ : CC) : Option (Int32 × CC) :=
  if gT g x0 = 6 then
  (gR g 605 x0).bind fun b2 =>
  if gT g b2 = 104 then
  if xin x1 (gN g b2) = true then
  if (cA τ b2 x1.toNatClampNeg) = 0 then
  Jc_X5_offer_43 g τ
  else
  (gR g 604 x0).bind fun b4 =>
  if gT g b4 = 100 then
  if xin x1 (gN g b4) = true then
  (gR g 610 x0).bind fun b6 =>
  if gT g b6 = 1 then
  xbd (f_c_X0_lordOf g b6 x1 τ) fun r8 τ8 =>
  if gT g r8 = 7 then
  if (cA τ b4 x1.toNatClampNeg) < (cI τ8 703 r8) then
  Jc_X5_offer_43 g τ8
  else
  xbd (f_c_X0_lordOf g b6 x1 τ8) fun r10 τ10 =>
  if gT g r10 = 7 then
  some ((cI τ10 703 r10, τ10))
  else none
  else none
  else none
  else none
  else none
  else none
  else none
  else none
theorem ok_f_c_X5_offer {D : CD} {P : CP} {K : xK} {g : CG} {Z : Option Value × CS} {x0 : Nat} {x1 : Int32} {τ : CC} {o_ : (Int32 × CC)} (hf : f_c_X5_offer g x0 x1 τ = some o_) (kr : ∀ r_ : (Int32 × CC), o_ = r_ → Z = (some (.int r_.1), (g, r_.2))) : xV (wC D P) K mX5_offer (xQ (wC D P) K Z) (g, τ) 0 [(0, .ref x0), (1, .int x1)] [] := by
  unfold f_c_X5_offer at hf
  refine xr_aload_n (pc := 0) 0 dX5_offer_0 rfl rfl ?_
  obtain ⟨ht1, hf⟩ := xo_if hf
  obtain ⟨b2, hb2, hf⟩ := xo_bind hf
  refine yc_getFs (pc := 1) 6 5 605 (gKo ht1 (by decide)) (by decide) (by decide) (by decide) rfl rfl hb2 q444 (ys_eq rfl) rfl dX5_offer_1 ?_
  refine xr_iload_n (pc := 4) 1 dX5_offer_4 rfl rfl ?_
  obtain ⟨ht3, hf⟩ := xo_if hf
  obtain ⟨hi_, hf⟩ := xo_if hf
  refine yc_zald (pc := 5) (gKo ht3 (by decide)) hi_ dX5_offer_5 ?_
  refine xr_if_eq (pc := 6) 43 dX5_offer_6 (by decide) (fun c_ => ?_) (fun c_ => ?_)
  · have hf := xo_pos c_ hf
    refine xV_sub [] rfl ?_
    exact ok_Jc_X5_offer_43 hf kr
  · have hf := xo_neg c_ hf
    refine xr_aload_n (pc := 9) 0 dX5_offer_9 rfl rfl ?_
    obtain ⟨b4, hb4, hf⟩ := xo_bind hf
    refine yc_getFs (pc := 10) 6 4 604 (gKo ht1 (by decide)) (by decide) (by decide) (by decide) rfl rfl hb4 q442 (ys_eq rfl) rfl dX5_offer_10 ?_
    refine xr_iload_n (pc := 13) 1 dX5_offer_13 rfl rfl ?_
    obtain ⟨ht5, hf⟩ := xo_if hf
    obtain ⟨hi_, hf⟩ := xo_if hf
    refine yc_iald (pc := 14) (gKo ht5 (by decide)) hi_ dX5_offer_14 ?_
    refine xr_aload_n (pc := 15) 0 dX5_offer_15 rfl rfl ?_
    obtain ⟨b6, hb6, hf⟩ := xo_bind hf
    refine yc_getFs (pc := 16) 6 10 610 (gKo ht1 (by decide)) (by decide) (by decide) (by decide) rfl rfl hb6 q454 (ys_eq rfl) rfl dX5_offer_16 ?_
    refine xr_iload_n (pc := 19) 1 dX5_offer_19 rfl rfl ?_
    obtain ⟨ht7, hf⟩ := xo_if hf
    obtain ⟨r8, τ8, hτ8, hf⟩ := xo_bd hf
    refine call_f_c_X0_lordOf_X5_64 (pc := 20) hτ8 (gKo ht7 (by decide)) rfl (Nat.le_of_ble_eq_true rfl) (Nat.le_of_ble_eq_true rfl) (Nat.le_of_ble_eq_true rfl) dX5_offer_20 ?_
    obtain ⟨ht9, hf⟩ := xo_if hf
    refine yc_getIN (pc := 23) 7 3 703 (gKo ht9 (by decide)) (by decide) (by decide) (by decide) rfl rfl q878 (ys_eq rfl) rfl dX5_offer_23 ?_
    refine xr_icmp_lt (pc := 26) 43 dX5_offer_26 (by decide) (fun c_ => ?_) (fun c_ => ?_)
    · have hf := xo_pos c_ hf
      refine xV_sub [] rfl ?_
      exact ok_Jc_X5_offer_43 hf kr
    · have hf := xo_neg c_ hf
      refine xr_aload_n (pc := 29) 0 dX5_offer_29 rfl rfl ?_
      refine yc_getFs (pc := 30) 6 10 610 (gKo ht1 (by decide)) (by decide) (by decide) (by decide) rfl rfl hb6 q454 (ys_eq rfl) rfl dX5_offer_30 ?_
      refine xr_iload_n (pc := 33) 1 dX5_offer_33 rfl rfl ?_
      obtain ⟨r10, τ10, hτ10, hf⟩ := xo_bd hf
      refine call_f_c_X0_lordOf_X5_64 (pc := 34) hτ10 (gKo ht7 (by decide)) rfl (Nat.le_of_ble_eq_true rfl) (Nat.le_of_ble_eq_true rfl) (Nat.le_of_ble_eq_true rfl) dX5_offer_34 ?_
      obtain ⟨ht11, hf⟩ := xo_if hf
      refine yc_getIN (pc := 37) 7 3 703 (gKo ht11 (by decide)) (by decide) (by decide) (by decide) rfl rfl q878 (ys_eq rfl) rfl dX5_offer_37 ?_
      refine xr_goto (pc := 40) 44 dX5_offer_40 (by decide) ?_
      rw [kr _ (Option.some.inj hf).symm]
      exact xr_iret (pc := 44) dX5_offer_44 rfl
theorem met_f_c_X5_offer (l : Launch) {D : CD} {P : CP} {g : CG} {x0 : Nat} {x1 : Int32} {τ : CC} {o_ : (Int32 × CC)} (hf : f_c_X5_offer g x0 x1 τ = some o_) : xMet (wC D P) l yX5_offer (ws_ yX5_offer cX5_offer 2 (some .int)) 4 240 (grc g) (grs g) [.ref x0, .int x1] (g, τ) (some (.int o_.1), (g, o_.2)) := 
  xMet_of (by decide) (Nat.le_of_ble_eq_true rfl) KC_moved RPC_of (fun K _ _ _ => ok_f_c_X5_offer hf (fun _ h => by rw [h]))
theorem call_f_c_X0_lords_X5_60 {D : CD} {P : CP} {K : xK} {M : xM} {Q : State → Prop} {g : CG} {c : CC} {x0 : Nat} {pc : Nat} {loc : List (Nat × Value)} {st : List Value} {r : Int32} {c1 : CC} (hf : f_c_X0_lords g x0 c = some (r, c1)) (hr : gK g x0 = 1) (ho : M.2.2.1 = RX5) (hfr : 2 ≤ M.2.2.2.1) (hlo : 80 ≤ M.2.2.2.2.1) (hcat : (st.map fun v => v.category).sum ≤ 8) (d : decode M.1 pc = .ok (.invokevirtual 60, 3)) (k : xV (wC D P) K M Q (g, c1) (pc + 3) loc (.int r :: st)) : xV (wC D P) K M Q (g, c) pc loc (.ref x0 :: st) :=
  yc_callVN (As := []) (rest := st) (met_f_c_X0_lords K.2.1 hf) (lw_meth q1250) q1247 q1249 qs34 q174 ⟨rfl, hd_f_c_X0_lords⟩ ho hfr hlo rfl hr (by decide) (by decide) rfl rfl hcat d k
theorem hd_f_c_X7_isOf : yX7_isOf.cls ≠ "java/lang/invoke/MethodHandle" ∧ yX7_isOf.cls ≠ "java/lang/invoke/VarHandle" ∧ (parseMethodDescriptor yX7_isOf.desc).map (fun d => d.parameters.length) = some 1 := by decide +kernel
theorem call_f_c_X7_isOf_X5_98 {D : CD} {P : CP} {K : xK} {M : xM} {Q : State → Prop} {g : CG} {c : CC} {x0 : Nat} {x1 : Int32} {pc : Nat} {loc : List (Nat × Value)} {st : List Value} {r : Int32} {c1 : CC} (hf : f_c_X7_isOf g x0 x1 c = some (r, c1)) (hr : gK g x0 = 7) (ho : M.2.2.1 = RX5) (hfr : 2 ≤ M.2.2.2.1) (hlo : 81 ≤ M.2.2.2.2.1) (hcat : (st.map fun v => v.category).sum ≤ 8) (d : decode M.1 pc = .ok (.invokevirtual 98, 3)) (k : xV (wC D P) K M Q (g, c1) (pc + 3) loc (.int r :: st)) : xV (wC D P) K M Q (g, c) pc loc (.int x1 :: .ref x0 :: st) :=
  yc_callV (As := [.int x1]) (rest := st) (met_f_c_X7_isOf K.2.1 hf) (lw_V q1429 q1430 q1431 q193 q1432) ⟨rfl, hd_f_c_X7_isOf⟩ ho hfr hlo rfl hr (by decide) (by decide) rfl rfl hcat d k
theorem hd_f_c_X5_offer : yX5_offer.cls ≠ "java/lang/invoke/MethodHandle" ∧ yX5_offer.cls ≠ "java/lang/invoke/VarHandle" ∧ (parseMethodDescriptor yX5_offer.desc).map (fun d => d.parameters.length) = some 1 := by decide +kernel
theorem call_f_c_X5_offer_X5_102 {D : CD} {P : CP} {K : xK} {M : xM} {Q : State → Prop} {g : CG} {c : CC} {x0 : Nat} {x1 : Int32} {pc : Nat} {loc : List (Nat × Value)} {st : List Value} {r : Int32} {c1 : CC} (hf : f_c_X5_offer g x0 x1 c = some (r, c1)) (hr : gK g x0 = 6) (ho : M.2.2.1 = RX5) (hfr : 5 ≤ M.2.2.2.1) (hlo : 261 ≤ M.2.2.2.2.1) (hcat : (st.map fun v => v.category).sum ≤ 8) (d : decode M.1 pc = .ok (.invokevirtual 102, 3)) (k : xV (wC D P) K M Q (g, c1) (pc + 3) loc (.int r :: st)) : xV (wC D P) K M Q (g, c) pc loc (.int x1 :: .ref x0 :: st) :=
  yc_callV (As := [.int x1]) (rest := st) (met_f_c_X5_offer K.2.1 hf) (lw_V q1434 q1435 q1436 q185 q1437) ⟨rfl, hd_f_c_X5_offer⟩ ho hfr hlo rfl hr (by decide) (by decide) rfl rfl hcat d k
abbrev mX5_pay : xM := (cX5_pay, 4, RX5, 5, 300, (some .int), "pay")
def Jc_X5_pay_40 (g : CG) (x0 : Nat) (x1 : Int32) (x3 : Int32) (s0 : Int32) (s1 : Int32) (τ : CC) : Option ((Int32 × Int32 × CC) ⊕ ((Int32 × CC))) :=
  some (.inl (s1 + s0, x3 + 1, τ))
theorem ok_Jc_X5_pay_40 {D : CD} {P : CP} {K : xK} {g : CG} {Z : Option Value × CS} {x0 : Nat} {x1 : Int32} {x3 : Int32} {s0 : Int32} {s1 : Int32} {τ : CC} {o_ : ((Int32 × Int32 × CC) ⊕ ((Int32 × CC)))} (hf : Jc_X5_pay_40 g x0 x1 x3 s0 s1 τ = some o_) (kc : ∀ s_ : Int32 × Int32 × CC, o_ = .inl s_ → xV (wC D P) K mX5_pay (xQ (wC D P) K Z) (g, s_.2.2) 4 [(0, .ref x0), (1, .int x1), (2, .int s_.1), (3, .int s_.2.1)] []) (ke0 : ∀ e_ : Int32 × CC, o_ = .inr e_ → xV (wC D P) K mX5_pay (xQ (wC D P) K Z) (g, e_.2) 48 [(2, .int e_.1)] []) : xV (wC D P) K mX5_pay (xQ (wC D P) K Z) (g, τ) 40 [(0, .ref x0), (1, .int x1), (3, .int x3)] [.int s0, .int s1] := by
  unfold Jc_X5_pay_40 at hf
  refine xr_iadd (pc := 40) dX5_pay_40 ?_
  refine xr_istore_n (pc := 41) (loc' := [(2, .int (s1 + s0)), (0, .ref x0), (1, .int x1), (3, .int x3)]) dX5_pay_41 rfl (by decide) rfl ?_
  refine xr_iinc (pc := 42) (loc' := [(3, .int (x3 + 1)), (2, .int (s1 + s0)), (0, .ref x0), (1, .int x1)]) 3 dX5_pay_42 rfl xci_1 (by decide) rfl ?_
  refine xr_goto (pc := 45) 4 dX5_pay_45 (by decide) ?_
  refine xV_sub [2, 3, 1, 0] rfl ?_
  exact kc _ (Option.some.inj hf).symm
def Bc_X5_pay_4 (g : CG) (x0 : Nat) (x1 : Int32) (x2 : Int32) (x3 : Int32) (τ : CC) : Option ((Int32 × Int32 × CC) ⊕ ((Int32 × CC))) :=
  if gT g x0 = 6 then
  (gR g 610 x0).bind fun b2 =>
  if gT g b2 = 1 then
  xbd (f_c_X0_lords g b2 τ) fun r4 τ4 =>
  if r4 ≤ x3 then
  some (.inr (x2, τ4))
  else
  xbd (f_c_X0_lordOf g b2 x3 τ4) fun r5 τ5 =>
  if gT g r5 = 7 then
  xbd (f_c_X7_isOf g r5 x1 τ5) fun r7 τ7 =>
  if r7 = 0 then
  Jc_X5_pay_40 g x0 x1 x3 0 x2 τ7
  else
  xbd (f_c_X5_offer g x0 x3 τ7) fun r8 τ8 =>
  Jc_X5_pay_40 g x0 x1 x3 r8 x2 τ8
  else none
  else none
  else none
theorem ok_Bc_X5_pay_4 {D : CD} {P : CP} {K : xK} {g : CG} {Z : Option Value × CS} {x0 : Nat} {x1 : Int32} {x2 : Int32} {x3 : Int32} {τ : CC} {o_ : ((Int32 × Int32 × CC) ⊕ ((Int32 × CC)))} (hf : Bc_X5_pay_4 g x0 x1 x2 x3 τ = some o_) (kc : ∀ s_ : Int32 × Int32 × CC, o_ = .inl s_ → xV (wC D P) K mX5_pay (xQ (wC D P) K Z) (g, s_.2.2) 4 [(0, .ref x0), (1, .int x1), (2, .int s_.1), (3, .int s_.2.1)] []) (ke0 : ∀ e_ : Int32 × CC, o_ = .inr e_ → xV (wC D P) K mX5_pay (xQ (wC D P) K Z) (g, e_.2) 48 [(2, .int e_.1)] []) : xV (wC D P) K mX5_pay (xQ (wC D P) K Z) (g, τ) 4 [(0, .ref x0), (1, .int x1), (2, .int x2), (3, .int x3)] [] := by
  unfold Bc_X5_pay_4 at hf
  refine xr_iload_n (pc := 4) 3 dX5_pay_4 rfl rfl ?_
  refine xr_aload_n (pc := 5) 0 dX5_pay_5 rfl rfl ?_
  obtain ⟨ht1, hf⟩ := xo_if hf
  obtain ⟨b2, hb2, hf⟩ := xo_bind hf
  refine yc_getFs (pc := 6) 6 10 610 (gKo ht1 (by decide)) (by decide) (by decide) (by decide) rfl rfl hb2 q454 (ys_eq rfl) rfl dX5_pay_6 ?_
  obtain ⟨ht3, hf⟩ := xo_if hf
  obtain ⟨r4, τ4, hτ4, hf⟩ := xo_bd hf
  refine call_f_c_X0_lords_X5_60 (pc := 9) hτ4 (gKo ht3 (by decide)) rfl (Nat.le_of_ble_eq_true rfl) (Nat.le_of_ble_eq_true rfl) (Nat.le_of_ble_eq_true rfl) dX5_pay_9 ?_
  refine xr_icmp_ge (pc := 12) 48 dX5_pay_12 (by decide) (fun c_ => ?_) (fun c_ => ?_)
  · have hf := xo_pos c_ hf
    refine xV_sub [2] rfl ?_
    exact ke0 _ (Option.some.inj hf).symm
  · have hf := xo_neg c_ hf
    refine xr_iload_n (pc := 15) 2 dX5_pay_15 rfl rfl ?_
    refine xr_aload_n (pc := 16) 0 dX5_pay_16 rfl rfl ?_
    refine yc_getFs (pc := 17) 6 10 610 (gKo ht1 (by decide)) (by decide) (by decide) (by decide) rfl rfl hb2 q454 (ys_eq rfl) rfl dX5_pay_17 ?_
    refine xr_iload_n (pc := 20) 3 dX5_pay_20 rfl rfl ?_
    obtain ⟨r5, τ5, hτ5, hf⟩ := xo_bd hf
    refine call_f_c_X0_lordOf_X5_64 (pc := 21) hτ5 (gKo ht3 (by decide)) rfl (Nat.le_of_ble_eq_true rfl) (Nat.le_of_ble_eq_true rfl) (Nat.le_of_ble_eq_true rfl) dX5_pay_21 ?_
    refine xr_iload_n (pc := 24) 1 dX5_pay_24 rfl rfl ?_
    obtain ⟨ht6, hf⟩ := xo_if hf
    obtain ⟨r7, τ7, hτ7, hf⟩ := xo_bd hf
    refine call_f_c_X7_isOf_X5_98 (pc := 25) hτ7 (gKo ht6 (by decide)) rfl (Nat.le_of_ble_eq_true rfl) (Nat.le_of_ble_eq_true rfl) (Nat.le_of_ble_eq_true rfl) dX5_pay_25 ?_
    refine xr_if_eq (pc := 28) 39 dX5_pay_28 (by decide) (fun c_ => ?_) (fun c_ => ?_)
    · have hf := xo_pos c_ hf
      refine xr_iconst (pc := 39) dX5_pay_39 xci_0 ?_
      refine xV_sub [0, 1, 3] rfl ?_
      exact ok_Jc_X5_pay_40 hf kc ke0
    · have hf := xo_neg c_ hf
      refine xr_aload_n (pc := 31) 0 dX5_pay_31 rfl rfl ?_
      refine xr_iload_n (pc := 32) 3 dX5_pay_32 rfl rfl ?_
      obtain ⟨r8, τ8, hτ8, hf⟩ := xo_bd hf
      refine call_f_c_X5_offer_X5_102 (pc := 33) hτ8 (gKo ht1 (by decide)) rfl (Nat.le_of_ble_eq_true rfl) (Nat.le_of_ble_eq_true rfl) (Nat.le_of_ble_eq_true rfl) dX5_pay_33 ?_
      refine xr_goto (pc := 36) 40 dX5_pay_36 (by decide) ?_
      refine xV_sub [0, 1, 3] rfl ?_
      exact ok_Jc_X5_pay_40 hf kc ke0
def f_c_X5_pay (g : CG) (x0 : Nat) (x1 : Int32) (τ : CC) : Option (Int32 × CC) :=
  (itr (fun s_ : Int32 × Int32 × CC => Bc_X5_pay_4 g x0 x1 s_.1 s_.2.1 s_.2.2) 4096 (0, 0, τ)).bind fun b9 =>
  some ((b9.1, b9.2))
theorem ok_f_c_X5_pay {D : CD} {P : CP} {K : xK} {g : CG} {Z : Option Value × CS} {x0 : Nat} {x1 : Int32} {τ : CC} {o_ : (Int32 × CC)} (hf : f_c_X5_pay g x0 x1 τ = some o_) (kr : ∀ r_ : (Int32 × CC), o_ = r_ → Z = (some (.int r_.1), (g, r_.2))) : xV (wC D P) K mX5_pay (xQ (wC D P) K Z) (g, τ) 0 [(0, .ref x0), (1, .int x1)] [] := by
  unfold f_c_X5_pay at hf
  refine xr_iconst (pc := 0) dX5_pay_0 xci_0 ?_
  refine xr_istore_n (pc := 1) (loc' := [(2, .int 0), (0, .ref x0), (1, .int x1)]) dX5_pay_1 rfl (by decide) rfl ?_
  refine xr_iconst (pc := 2) dX5_pay_2 xci_0 ?_
  refine xr_istore_n (pc := 3) (loc' := [(3, .int 0), (2, .int 0), (0, .ref x0), (1, .int x1)]) dX5_pay_3 rfl (by decide) rfl ?_
  refine xV_sub [2, 3, 1, 0] rfl ?_
  obtain ⟨b9, hb9, hf⟩ := xo_bind hf
  refine itr_rule (P := fun s_ : Int32 × Int32 × CC => xV (wC D P) K mX5_pay (xQ (wC D P) K Z) (g, s_.2.2) 4 [(0, .ref x0), (1, .int x1), (2, .int s_.1), (3, .int s_.2.1)] []) (fun s_ o_ hB_ hc_ he_ => ok_Bc_X5_pay_4 hB_ hc_ (fun e_ h_ => ?_)) 4096 _ hb9
  · have e9_ := he_ _ h_
    rw [e9_]
    refine xr_iload_n (pc := 48) 0 dX5_pay_48 rfl rfl ?_
    rw [kr _ (Option.some.inj hf).symm]
    exact xr_iret (pc := 49) dX5_pay_49 rfl
theorem met_f_c_X5_pay (l : Launch) {D : CD} {P : CP} {g : CG} {x0 : Nat} {x1 : Int32} {τ : CC} {o_ : (Int32 × CC)} (hf : f_c_X5_pay g x0 x1 τ = some o_) : xMet (wC D P) l yX5_pay (ws_ yX5_pay cX5_pay 4 (some .int)) 5 300 (grc g) (grs g) [.ref x0, .int x1] (g, τ) (some (.int o_.1), (g, o_.2)) := 
  xMet_of (by decide) (Nat.le_of_ble_eq_true rfl) KC_moved RPC_of (fun K _ _ _ => ok_f_c_X5_pay hf (fun _ h => by rw [h]))
theorem hd_f_c_X5_pay : yX5_pay.cls ≠ "java/lang/invoke/MethodHandle" ∧ yX5_pay.cls ≠ "java/lang/invoke/VarHandle" ∧ (parseMethodDescriptor yX5_pay.desc).map (fun d => d.parameters.length) = some 1 := by decide +kernel
theorem call_f_c_X5_pay_X0_247 {D : CD} {P : CP} {K : xK} {M : xM} {Q : State → Prop} {g : CG} {c : CC} {x0 : Nat} {x1 : Int32} {pc : Nat} {loc : List (Nat × Value)} {st : List Value} {r : Int32} {c1 : CC} (hf : f_c_X5_pay g x0 x1 c = some (r, c1)) (hr : gK g x0 = 6) (ho : M.2.2.1 = RX0) (hfr : 6 ≤ M.2.2.2.1) (hlo : 323 ≤ M.2.2.2.2.1) (hcat : (st.map fun v => v.category).sum ≤ 8) (d : decode M.1 pc = .ok (.invokevirtual 247, 3)) (k : xV (wC D P) K M Q (g, c1) (pc + 3) loc (.int r :: st)) : xV (wC D P) K M Q (g, c) pc loc (.int x1 :: .ref x0 :: st) :=
  yc_callV (As := [.int x1]) (rest := st) (met_f_c_X5_pay K.2.1 hf) (lw_V q1425 q1426 q1427 q185 q1428) ⟨rfl, hd_f_c_X5_pay⟩ ho hfr hlo rfl hr (by decide) (by decide) rfl rfl hcat d k
theorem call_f_c_X5_isBend_X0_244 {D : CD} {P : CP} {K : xK} {M : xM} {Q : State → Prop} {g : CG} {c : CC} {x0 : Nat} {x1 : Int32} {pc : Nat} {loc : List (Nat × Value)} {st : List Value} {r : Int32} {c1 : CC} (hf : f_c_X5_isBend g x0 x1 c = some (r, c1)) (hr : gK g x0 = 6) (ho : M.2.2.1 = RX0) (hfr : 80 ≤ M.2.2.2.1) (hlo : 4761 ≤ M.2.2.2.2.1) (hcat : (st.map fun v => v.category).sum ≤ 8) (d : decode M.1 pc = .ok (.invokevirtual 244, 3)) (k : xV (wC D P) K M Q (g, c1) (pc + 3) loc (.int r :: st)) : xV (wC D P) K M Q (g, c) pc loc (.int x1 :: .ref x0 :: st) :=
  yc_callV (As := [.int x1]) (rest := st) (met_f_c_X5_isBend K.2.1 hf) (lw_V q1424 q1279 q1280 q185 q1281) ⟨rfl, hd_f_c_X5_isBend⟩ ho hfr hlo rfl hr (by decide) (by decide) rfl rfl hcat d k
abbrev mX0_column : xM := (cX0_column, 3, RX0, 80, 4800, (some .int), "column")
def f_c_X0_column (g : CG) (x0 : Nat) (x1 : Int32) (x2 : Int32) (τ : CC) : Option (Int32 × CC) :=
  if gT g x0 = 1 then
  xbd (f_c_X0_isColumn g x0 x1 τ) fun r2 τ2 =>
  if r2 = 0 then
  some (((-1), τ2))
  else
  if x2 = 0 then
  (gR g 109 x0).bind fun b12 =>
  if gT g b12 = 6 then
  (gR g 603 b12).bind fun b14 =>
  if gT g b14 = 100 then
  if xin x1 (gN g b14) = true then
  some ((cA τ2 b14 x1.toNatClampNeg, τ2))
  else none
  else none
  else none
  else
  if x2 = 1 then
  (gR g 109 x0).bind fun b9 =>
  if gT g b9 = 6 then
  xbd (f_c_X5_turn g b9 x1 τ2) fun r11 τ11 =>
  some ((r11, τ11))
  else none
  else
  if x2 = 2 then
  (gR g 109 x0).bind fun b6 =>
  if gT g b6 = 6 then
  xbd (f_c_X5_isBend g b6 x1 τ2) fun r8 τ8 =>
  if r8 = 0 then
  some ((0, τ8))
  else
  some ((1, τ8))
  else none
  else
  if x2 = 3 then
  (gR g 109 x0).bind fun b3 =>
  if gT g b3 = 6 then
  xbd (f_c_X5_pay g b3 x1 τ2) fun r5 τ5 =>
  some ((r5, τ5))
  else none
  else
  some (((-1), τ2))
  else none
theorem ok_f_c_X0_column {D : CD} {P : CP} {K : xK} {g : CG} {Z : Option Value × CS} {x0 : Nat} {x1 : Int32} {x2 : Int32} {τ : CC} {o_ : (Int32 × CC)} (hf : f_c_X0_column g x0 x1 x2 τ = some o_) (kr : ∀ r_ : (Int32 × CC), o_ = r_ → Z = (some (.int r_.1), (g, r_.2))) : xV (wC D P) K mX0_column (xQ (wC D P) K Z) (g, τ) 0 [(0, .ref x0), (1, .int x1), (2, .int x2)] [] := by
  unfold f_c_X0_column at hf
  refine xr_aload_n (pc := 0) 0 dX0_column_0 rfl rfl ?_
  refine xr_iload_n (pc := 1) 1 dX0_column_1 rfl rfl ?_
  obtain ⟨ht1, hf⟩ := xo_if hf
  obtain ⟨r2, τ2, hτ2, hf⟩ := xo_bd hf
  refine call_f_c_X0_isColumn_X0_171 (pc := 2) hτ2 (gKo ht1 (by decide)) rfl (Nat.le_of_ble_eq_true rfl) (Nat.le_of_ble_eq_true rfl) (Nat.le_of_ble_eq_true rfl) dX0_column_2 ?_
  refine xr_if_ne (pc := 5) 10 dX0_column_5 (by decide) (fun c_ => ?_) (fun c_ => ?_)
  · have hf := xo_pos c_ hf
    refine xr_iconst (pc := 8) dX0_column_8 xci_m1 ?_
    rw [kr _ (Option.some.inj hf).symm]
    exact xr_iret (pc := 9) dX0_column_9 rfl
  · have hf := xo_neg c_ hf
    refine xr_iload_n (pc := 10) 2 dX0_column_10 rfl rfl ?_
    by_cases c0_ : x2 = 0
    · have hf := xo_pos c0_ hf
      refine xr_tsw_in (pc := 11) (v := 0) (off := 29) 40 dX0_column_11 c0_ (by decide) (by decide +kernel) (by decide) ?_
      refine xr_aload_n (pc := 40) 0 dX0_column_40 rfl rfl ?_
      obtain ⟨b12, hb12, hf⟩ := xo_bind hf
      refine yc_getFs (pc := 41) 1 9 109 (gKo ht1 (by decide)) (by decide) (by decide) (by decide) rfl rfl hb12 q495 (ys_eq rfl) rfl dX0_column_41 ?_
      obtain ⟨ht13, hf⟩ := xo_if hf
      obtain ⟨b14, hb14, hf⟩ := xo_bind hf
      refine yc_getFsN (pc := 44) 6 3 603 (gKo ht13 (by decide)) (by decide) (by decide) (by decide) rfl rfl hb14 q441 (ys_eq rfl) rfl dX0_column_44 ?_
      refine xr_iload_n (pc := 47) 1 dX0_column_47 rfl rfl ?_
      obtain ⟨ht15, hf⟩ := xo_if hf
      obtain ⟨hi_, hf⟩ := xo_if hf
      refine yc_iald (pc := 48) (gKo ht15 (by decide)) hi_ dX0_column_48 ?_
      rw [kr _ (Option.some.inj hf).symm]
      exact xr_iret (pc := 49) dX0_column_49 rfl
    have hf := xo_neg c0_ hf
    by_cases c1_ : x2 = 1
    · have hf := xo_pos c1_ hf
      refine xr_tsw_in (pc := 11) (v := 1) (off := 39) 50 dX0_column_11 c1_ (by decide) (by decide +kernel) (by decide) ?_
      refine xr_aload_n (pc := 50) 0 dX0_column_50 rfl rfl ?_
      obtain ⟨b9, hb9, hf⟩ := xo_bind hf
      refine yc_getFs (pc := 51) 1 9 109 (gKo ht1 (by decide)) (by decide) (by decide) (by decide) rfl rfl hb9 q495 (ys_eq rfl) rfl dX0_column_51 ?_
      refine xr_iload_n (pc := 54) 1 dX0_column_54 rfl rfl ?_
      obtain ⟨ht10, hf⟩ := xo_if hf
      obtain ⟨r11, τ11, hτ11, hf⟩ := xo_bd hf
      refine call_f_c_X5_turn_X0_241 (pc := 55) hτ11 (gKo ht10 (by decide)) rfl (Nat.le_of_ble_eq_true rfl) (Nat.le_of_ble_eq_true rfl) (Nat.le_of_ble_eq_true rfl) dX0_column_55 ?_
      rw [kr _ (Option.some.inj hf).symm]
      exact xr_iret (pc := 58) dX0_column_58 rfl
    have hf := xo_neg c1_ hf
    by_cases c2_ : x2 = 2
    · have hf := xo_pos c2_ hf
      refine xr_tsw_in (pc := 11) (v := 2) (off := 48) 59 dX0_column_11 c2_ (by decide) (by decide +kernel) (by decide) ?_
      refine xr_aload_n (pc := 59) 0 dX0_column_59 rfl rfl ?_
      obtain ⟨b6, hb6, hf⟩ := xo_bind hf
      refine yc_getFs (pc := 60) 1 9 109 (gKo ht1 (by decide)) (by decide) (by decide) (by decide) rfl rfl hb6 q495 (ys_eq rfl) rfl dX0_column_60 ?_
      refine xr_iload_n (pc := 63) 1 dX0_column_63 rfl rfl ?_
      obtain ⟨ht7, hf⟩ := xo_if hf
      obtain ⟨r8, τ8, hτ8, hf⟩ := xo_bd hf
      refine call_f_c_X5_isBend_X0_244 (pc := 64) hτ8 (gKo ht7 (by decide)) rfl (Nat.le_of_ble_eq_true rfl) (Nat.le_of_ble_eq_true rfl) (Nat.le_of_ble_eq_true rfl) dX0_column_64 ?_
      refine xr_if_eq (pc := 67) 74 dX0_column_67 (by decide) (fun c_ => ?_) (fun c_ => ?_)
      · have hf := xo_pos c_ hf
        refine xr_iconst (pc := 74) dX0_column_74 xci_0 ?_
        rw [kr _ (Option.some.inj hf).symm]
        exact xr_iret (pc := 75) dX0_column_75 rfl
      · have hf := xo_neg c_ hf
        refine xr_iconst (pc := 70) dX0_column_70 xci_1 ?_
        refine xr_goto (pc := 71) 75 dX0_column_71 (by decide) ?_
        rw [kr _ (Option.some.inj hf).symm]
        exact xr_iret (pc := 75) dX0_column_75 rfl
    have hf := xo_neg c2_ hf
    by_cases c3_ : x2 = 3
    · have hf := xo_pos c3_ hf
      refine xr_tsw_in (pc := 11) (v := 3) (off := 65) 76 dX0_column_11 c3_ (by decide) (by decide +kernel) (by decide) ?_
      refine xr_aload_n (pc := 76) 0 dX0_column_76 rfl rfl ?_
      obtain ⟨b3, hb3, hf⟩ := xo_bind hf
      refine yc_getFs (pc := 77) 1 9 109 (gKo ht1 (by decide)) (by decide) (by decide) (by decide) rfl rfl hb3 q495 (ys_eq rfl) rfl dX0_column_77 ?_
      refine xr_iload_n (pc := 80) 1 dX0_column_80 rfl rfl ?_
      obtain ⟨ht4, hf⟩ := xo_if hf
      obtain ⟨r5, τ5, hτ5, hf⟩ := xo_bd hf
      refine call_f_c_X5_pay_X0_247 (pc := 81) hτ5 (gKo ht4 (by decide)) rfl (Nat.le_of_ble_eq_true rfl) (Nat.le_of_ble_eq_true rfl) (Nat.le_of_ble_eq_true rfl) dX0_column_81 ?_
      rw [kr _ (Option.some.inj hf).symm]
      exact xr_iret (pc := 84) dX0_column_84 rfl
    have hf := xo_neg c3_ hf
    refine xr_tsw_out (pc := 11) 85 dX0_column_11 (xsw_out 0 3 [0, 1, 2, 3] (by decide +kernel) (List.forall_mem_cons.mpr ⟨c0_, List.forall_mem_cons.mpr ⟨c1_, List.forall_mem_cons.mpr ⟨c2_, List.forall_mem_cons.mpr ⟨c3_, List.forall_mem_nil _⟩⟩⟩⟩)) (by decide) ?_
    refine xr_iconst (pc := 85) dX0_column_85 xci_m1 ?_
    rw [kr _ (Option.some.inj hf).symm]
    exact xr_iret (pc := 86) dX0_column_86 rfl
theorem met_f_c_X0_column (l : Launch) {D : CD} {P : CP} {g : CG} {x0 : Nat} {x1 : Int32} {x2 : Int32} {τ : CC} {o_ : (Int32 × CC)} (hf : f_c_X0_column g x0 x1 x2 τ = some o_) : xMet (wC D P) l yX0_column (ws_ yX0_column cX0_column 3 (some .int)) 80 4800 (grc g) (grs g) [.ref x0, .int x1, .int x2] (g, τ) (some (.int o_.1), (g, o_.2)) := 
  xMet_of (by decide) (Nat.le_of_ble_eq_true rfl) KC_moved RPC_of (fun K _ _ _ => ok_f_c_X0_column hf (fun _ h => by rw [h]))
theorem hd_f_c_X0_isCell : yX0_isCell.cls ≠ "java/lang/invoke/MethodHandle" ∧ yX0_isCell.cls ≠ "java/lang/invoke/VarHandle" ∧ (parseMethodDescriptor yX0_isCell.desc).map (fun d => d.parameters.length) = some 2 := by decide +kernel
theorem call_f_c_X0_isCell_X0_250 {D : CD} {P : CP} {K : xK} {M : xM} {Q : State → Prop} {g : CG} {c : CC} {x0 : Nat} {x1 : Int32} {x2 : Int32} {pc : Nat} {loc : List (Nat × Value)} {st : List Value} {r : Int32} {c1 : CC} (hf : f_c_X0_isCell g x0 x1 x2 c = some (r, c1)) (hr : gK g x0 = 1) (ho : M.2.2.1 = RX0) (hfr : 3 ≤ M.2.2.2.1) (hlo : 142 ≤ M.2.2.2.2.1) (hcat : (st.map fun v => v.category).sum ≤ 8) (d : decode M.1 pc = .ok (.invokevirtual 250, 3)) (k : xV (wC D P) K M Q (g, c1) (pc + 3) loc (.int r :: st)) : xV (wC D P) K M Q (g, c) pc loc (.int x2 :: .int x1 :: .ref x0 :: st) :=
  yc_callV (As := [.int x1, .int x2]) (rest := st) (met_f_c_X0_isCell K.2.1 hf) (lw_V q1442 q1444 qs42 q174 q1445) ⟨rfl, hd_f_c_X0_isCell⟩ ho hfr hlo rfl hr (by decide) (by decide) rfl rfl hcat d k
abbrev mX0_cell : xM := (cX0_cell, 4, RX0, 3, 180, (some .int), "cell")
def f_c_X0_cell (g : CG) (x0 : Nat) (x1 : Int32) (x2 : Int32) (x3 : Int32) (τ : CC) : Option (Int32 × CC) :=
  if gT g x0 = 1 then
  xbd (f_c_X0_isCell g x0 x1 x2 τ) fun r2 τ2 =>
  if r2 = 0 then
  some (((-1), τ2))
  else
  if x3 = 0 then
  (cR τ2 100 x0).bind fun b3 =>
  if gT g b3 = 2 then
  (gR g 206 b3).bind fun b5 =>
  if gT g b5 = 105 then
  if xin x1 (gN g b5) = true then
  if gT g (gA g b5 x1.toNatClampNeg) = 100 then
  if xin x2 (gN g (gA g b5 x1.toNatClampNeg)) = true then
  some ((cA τ2 (gA g b5 x1.toNatClampNeg) x2.toNatClampNeg, τ2))
  else none
  else none
  else none
  else none
  else none
  else
  if x3 = 1 then
  (gR g 109 x0).bind fun b8 =>
  if gT g b8 = 6 then
  (gR g 606 b8).bind fun b10 =>
  if gT g b10 = 105 then
  if xin x1 (gN g b10) = true then
  if gT g (gA g b10 x1.toNatClampNeg) = 100 then
  if xin x2 (gN g (gA g b10 x1.toNatClampNeg)) = true then
  some ((cA τ2 (gA g b10 x1.toNatClampNeg) x2.toNatClampNeg, τ2))
  else none
  else none
  else none
  else none
  else none
  else
  if x3 = 2 then
  (gR g 109 x0).bind fun b13 =>
  if gT g b13 = 6 then
  (gR g 607 b13).bind fun b15 =>
  if gT g b15 = 105 then
  if xin x1 (gN g b15) = true then
  if gT g (gA g b15 x1.toNatClampNeg) = 100 then
  if xin x2 (gN g (gA g b15 x1.toNatClampNeg)) = true then
  some ((cA τ2 (gA g b15 x1.toNatClampNeg) x2.toNatClampNeg, τ2))
  else none
  else none
  else none
  else none
  else none
  else
  some (((-1), τ2))
  else none
theorem ok_f_c_X0_cell {D : CD} {P : CP} {K : xK} {g : CG} {Z : Option Value × CS} {x0 : Nat} {x1 : Int32} {x2 : Int32} {x3 : Int32} {τ : CC} {o_ : (Int32 × CC)} (hf : f_c_X0_cell g x0 x1 x2 x3 τ = some o_) (kr : ∀ r_ : (Int32 × CC), o_ = r_ → Z = (some (.int r_.1), (g, r_.2))) : xV (wC D P) K mX0_cell (xQ (wC D P) K Z) (g, τ) 0 [(0, .ref x0), (1, .int x1), (2, .int x2), (3, .int x3)] [] := by
  unfold f_c_X0_cell at hf
  refine xr_aload_n (pc := 0) 0 dX0_cell_0 rfl rfl ?_
  refine xr_iload_n (pc := 1) 1 dX0_cell_1 rfl rfl ?_
  refine xr_iload_n (pc := 2) 2 dX0_cell_2 rfl rfl ?_
  obtain ⟨ht1, hf⟩ := xo_if hf
  obtain ⟨r2, τ2, hτ2, hf⟩ := xo_bd hf
  refine call_f_c_X0_isCell_X0_250 (pc := 3) hτ2 (gKo ht1 (by decide)) rfl (Nat.le_of_ble_eq_true rfl) (Nat.le_of_ble_eq_true rfl) (Nat.le_of_ble_eq_true rfl) dX0_cell_3 ?_
  refine xr_if_ne (pc := 6) 11 dX0_cell_6 (by decide) (fun c_ => ?_) (fun c_ => ?_)
  · have hf := xo_pos c_ hf
    refine xr_iconst (pc := 9) dX0_cell_9 xci_m1 ?_
    rw [kr _ (Option.some.inj hf).symm]
    exact xr_iret (pc := 10) dX0_cell_10 rfl
  · have hf := xo_neg c_ hf
    refine xr_iload_n (pc := 11) 3 dX0_cell_11 rfl rfl ?_
    refine xr_if_ne (pc := 12) 29 dX0_cell_12 (by decide) (fun c_ => ?_) (fun c_ => ?_)
    · have hf := xo_pos c_ hf
      refine xr_aload_n (pc := 15) 0 dX0_cell_15 rfl rfl ?_
      obtain ⟨b3, hb3, hf⟩ := xo_bind hf
      refine yc_getRs (pc := 16) 1 0 100 (gKo ht1 (by decide)) (by decide) (by decide) (by decide) rfl rfl hb3 q484 (ys_eq rfl) rfl dX0_cell_16 ?_
      obtain ⟨ht4, hf⟩ := xo_if hf
      obtain ⟨b5, hb5, hf⟩ := xo_bind hf
      refine yc_getFsN (pc := 19) 2 6 206 (gKo ht4 (by decide)) (by decide) (by decide) (by decide) rfl rfl hb5 q275 (ys_eq rfl) rfl dX0_cell_19 ?_
      refine xr_iload_n (pc := 22) 1 dX0_cell_22 rfl rfl ?_
      obtain ⟨ht6, hf⟩ := xo_if hf
      obtain ⟨hi_, hf⟩ := xo_if hf
      refine yc_aaldF (pc := 23) 105 (gKo ht6 (by decide)) (by decide) (by decide) rfl rfl hi_ dX0_cell_23 ?_
      refine xr_iload_n (pc := 24) 2 dX0_cell_24 rfl rfl ?_
      obtain ⟨ht7, hf⟩ := xo_if hf
      obtain ⟨hi_, hf⟩ := xo_if hf
      refine yc_iald (pc := 25) (gKo ht7 (by decide)) hi_ dX0_cell_25 ?_
      refine xr_goto (pc := 26) 68 dX0_cell_26 (by decide) ?_
      rw [kr _ (Option.some.inj hf).symm]
      exact xr_iret (pc := 68) dX0_cell_68 rfl
    · have hf := xo_neg c_ hf
      refine xr_iload_n (pc := 29) 3 dX0_cell_29 rfl rfl ?_
      refine xr_iconst (pc := 30) dX0_cell_30 xci_1 ?_
      refine xr_icmp_ne (pc := 31) 48 dX0_cell_31 (by decide) (fun c_ => ?_) (fun c_ => ?_)
      · have hf := xo_pos c_ hf
        refine xr_aload_n (pc := 34) 0 dX0_cell_34 rfl rfl ?_
        obtain ⟨b8, hb8, hf⟩ := xo_bind hf
        refine yc_getFs (pc := 35) 1 9 109 (gKo ht1 (by decide)) (by decide) (by decide) (by decide) rfl rfl hb8 q495 (ys_eq rfl) rfl dX0_cell_35 ?_
        obtain ⟨ht9, hf⟩ := xo_if hf
        obtain ⟨b10, hb10, hf⟩ := xo_bind hf
        refine yc_getFsN (pc := 38) 6 6 606 (gKo ht9 (by decide)) (by decide) (by decide) (by decide) rfl rfl hb10 q447 (ys_eq rfl) rfl dX0_cell_38 ?_
        refine xr_iload_n (pc := 41) 1 dX0_cell_41 rfl rfl ?_
        obtain ⟨ht11, hf⟩ := xo_if hf
        obtain ⟨hi_, hf⟩ := xo_if hf
        refine yc_aaldF (pc := 42) 105 (gKo ht11 (by decide)) (by decide) (by decide) rfl rfl hi_ dX0_cell_42 ?_
        refine xr_iload_n (pc := 43) 2 dX0_cell_43 rfl rfl ?_
        obtain ⟨ht12, hf⟩ := xo_if hf
        obtain ⟨hi_, hf⟩ := xo_if hf
        refine yc_iald (pc := 44) (gKo ht12 (by decide)) hi_ dX0_cell_44 ?_
        refine xr_goto (pc := 45) 68 dX0_cell_45 (by decide) ?_
        rw [kr _ (Option.some.inj hf).symm]
        exact xr_iret (pc := 68) dX0_cell_68 rfl
      · have hf := xo_neg c_ hf
        refine xr_iload_n (pc := 48) 3 dX0_cell_48 rfl rfl ?_
        refine xr_iconst (pc := 49) dX0_cell_49 xci_2 ?_
        refine xr_icmp_ne (pc := 50) 67 dX0_cell_50 (by decide) (fun c_ => ?_) (fun c_ => ?_)
        · have hf := xo_pos c_ hf
          refine xr_aload_n (pc := 53) 0 dX0_cell_53 rfl rfl ?_
          obtain ⟨b13, hb13, hf⟩ := xo_bind hf
          refine yc_getFs (pc := 54) 1 9 109 (gKo ht1 (by decide)) (by decide) (by decide) (by decide) rfl rfl hb13 q495 (ys_eq rfl) rfl dX0_cell_54 ?_
          obtain ⟨ht14, hf⟩ := xo_if hf
          obtain ⟨b15, hb15, hf⟩ := xo_bind hf
          refine yc_getFsN (pc := 57) 6 7 607 (gKo ht14 (by decide)) (by decide) (by decide) (by decide) rfl rfl hb15 q449 (ys_eq rfl) rfl dX0_cell_57 ?_
          refine xr_iload_n (pc := 60) 1 dX0_cell_60 rfl rfl ?_
          obtain ⟨ht16, hf⟩ := xo_if hf
          obtain ⟨hi_, hf⟩ := xo_if hf
          refine yc_aaldF (pc := 61) 105 (gKo ht16 (by decide)) (by decide) (by decide) rfl rfl hi_ dX0_cell_61 ?_
          refine xr_iload_n (pc := 62) 2 dX0_cell_62 rfl rfl ?_
          obtain ⟨ht17, hf⟩ := xo_if hf
          obtain ⟨hi_, hf⟩ := xo_if hf
          refine yc_iald (pc := 63) (gKo ht17 (by decide)) hi_ dX0_cell_63 ?_
          refine xr_goto (pc := 64) 68 dX0_cell_64 (by decide) ?_
          rw [kr _ (Option.some.inj hf).symm]
          exact xr_iret (pc := 68) dX0_cell_68 rfl
        · have hf := xo_neg c_ hf
          refine xr_iconst (pc := 67) dX0_cell_67 xci_m1 ?_
          rw [kr _ (Option.some.inj hf).symm]
          exact xr_iret (pc := 68) dX0_cell_68 rfl
theorem met_f_c_X0_cell (l : Launch) {D : CD} {P : CP} {g : CG} {x0 : Nat} {x1 : Int32} {x2 : Int32} {x3 : Int32} {τ : CC} {o_ : (Int32 × CC)} (hf : f_c_X0_cell g x0 x1 x2 x3 τ = some o_) : xMet (wC D P) l yX0_cell (ws_ yX0_cell cX0_cell 4 (some .int)) 3 180 (grc g) (grs g) [.ref x0, .int x1, .int x2, .int x3] (g, τ) (some (.int o_.1), (g, o_.2)) := 
  xMet_of (by decide) (Nat.le_of_ble_eq_true rfl) KC_moved RPC_of (fun K _ _ _ => ok_f_c_X0_cell hf (fun _ h => by rw [h]))
theorem call_f_c_X5_pay_X5_109 {D : CD} {P : CP} {K : xK} {M : xM} {Q : State → Prop} {g : CG} {c : CC} {x0 : Nat} {x1 : Int32} {pc : Nat} {loc : List (Nat × Value)} {st : List Value} {r : Int32} {c1 : CC} (hf : f_c_X5_pay g x0 x1 c = some (r, c1)) (hr : gK g x0 = 6) (ho : M.2.2.1 = RX5) (hfr : 6 ≤ M.2.2.2.1) (hlo : 323 ≤ M.2.2.2.2.1) (hcat : (st.map fun v => v.category).sum ≤ 8) (d : decode M.1 pc = .ok (.invokevirtual 109, 3)) (k : xV (wC D P) K M Q (g, c1) (pc + 3) loc (.int r :: st)) : xV (wC D P) K M Q (g, c) pc loc (.int x1 :: .ref x0 :: st) :=
  yc_callV (As := [.int x1]) (rest := st) (met_f_c_X5_pay K.2.1 hf) (lw_V q1454 q1426 q1427 q185 q1428) ⟨rfl, hd_f_c_X5_pay⟩ ho hfr hlo rfl hr (by decide) (by decide) rfl rfl hcat d k
theorem call_f_c_X5_turn_X5_112 {D : CD} {P : CP} {K : xK} {M : xM} {Q : State → Prop} {g : CG} {c : CC} {x0 : Nat} {x1 : Int32} {pc : Nat} {loc : List (Nat × Value)} {st : List Value} {r : Int32} {c1 : CC} (hf : f_c_X5_turn g x0 x1 c = some (r, c1)) (hr : gK g x0 = 6) (ho : M.2.2.1 = RX5) (hfr : 3 ≤ M.2.2.2.1) (hlo : 141 ≤ M.2.2.2.2.1) (hcat : (st.map fun v => v.category).sum ≤ 8) (d : decode M.1 pc = .ok (.invokevirtual 112, 3)) (k : xV (wC D P) K M Q (g, c1) (pc + 3) loc (.int r :: st)) : xV (wC D P) K M Q (g, c) pc loc (.int x1 :: .ref x0 :: st) :=
  yc_callV (As := [.int x1]) (rest := st) (met_f_c_X5_turn K.2.1 hf) (lw_V q1455 q1361 q1362 q185 q1363) ⟨rfl, hd_f_c_X5_turn⟩ ho hfr hlo rfl hr (by decide) (by decide) rfl rfl hcat d k
theorem call_d_at_X5_128 {D : CD} {P : CP} {K : xK} {M : xM} {Q : State → Prop} {g : CG} {c : CC} {a m d_ : Nat} {f_ : Nat → Nat → CG → CC → Option (Int64 × CC)} {pc : Nat} {loc : List (Nat × Value)} {st : List Value} {r : Int64} {c1 : CC} (H : DAT D P d_ f_) (hf : f_ a m g c = some (r, c1)) (ho : M.2.2.1 = RX5) (hfr : 12 + d_ + 1 ≤ M.2.2.2.1) (hlo : 60 * (12 + d_) + 60 ≤ M.2.2.2.2.1) (hcat : (st.map fun v => v.category).sum ≤ 8) (d : decode M.1 pc = .ok (.invokevirtual 128, 3)) (k : xV (wC D P) K M Q (g, c1) (pc + 3) loc (.long r :: st)) : xV (wC D P) K M Q (g, c) pc loc (.ref m :: .ref a :: st) := by
  rcases H K.2.1 a m g c r c1 hf with ⟨ht, hM⟩ | ⟨ht, hM⟩ | ⟨ht, hM⟩ | ⟨ht, hM⟩ | ⟨ht, hM⟩
  · exact yc_callA (n := 1) (As := [.ref m]) (rest := st) (z := ⟨"BentRiver$Value", "at", "(LBentRiver$Moment;)J"⟩) hM (lw_2 q1456 q1325 (lw_2 q1385 q1347 (lw_1 q202 (lw_meth q1348)))) q1324 (by decide +kernel) ho hfr (by omega) rfl ht (by decide) (by decide) rfl rfl hcat d k
  · exact yc_callA (n := 1) (As := [.ref m]) (rest := st) (z := ⟨"BentRiver$Value", "at", "(LBentRiver$Moment;)J"⟩) hM (lw_2 q1456 q1325 (lw_2 q1326 q1327 (lw_1 q203 (lw_meth q1328)))) q1324 (by decide +kernel) ho hfr (by omega) rfl ht (by decide) (by decide) rfl rfl hcat d k
  · exact yc_callA (n := 1) (As := [.ref m]) (rest := st) (z := ⟨"BentRiver$Value", "at", "(LBentRiver$Moment;)J"⟩) hM (lw_2 q1456 q1325 (lw_2 q1387 q1352 (lw_1 q201 (lw_meth q1353)))) q1324 (by decide +kernel) ho hfr (by omega) rfl ht (by decide) (by decide) rfl rfl hcat d k
  · exact yc_callA (n := 1) (As := [.ref m]) (rest := st) (z := ⟨"BentRiver$Value", "at", "(LBentRiver$Moment;)J"⟩) hM (lw_2 q1456 q1325 (lw_2 q1340 q1341 (lw_1 q198 (lw_meth q1342)))) q1324 (by decide +kernel) ho hfr (by omega) rfl ht (by decide) (by decide) rfl rfl hcat d k
  · exact yc_callA (n := 1) (As := [.ref m]) (rest := st) (z := ⟨"BentRiver$Value", "at", "(LBentRiver$Moment;)J"⟩) hM (lw_2 q1456 q1325 (lw_2 q1386 q1349 (lw_1 q204 (lw_meth q1350)))) q1324 (by decide +kernel) ho hfr (by omega) rfl ht (by decide) (by decide) rfl rfl hcat d k
abbrev mX5_eats : xM := (cX5_eats, 3, RX5, 78, 4680, (some .long), "eats")
def f_c_X5_eats (g : CG) (x0 : Nat) (x1 : Int32) (x2 : Int32) (τ : CC) : Option (Int64 × CC) :=
  if gT g x0 = 6 then
  (gR g 610 x0).bind fun b2 =>
  if gT g b2 = 1 then
  (cR τ 100 b2).bind fun b4 =>
  if gT g b4 = 2 then
  if (cR τ 209 b4) = none then
  xbd (f_c_X5_pay g x0 x1 τ) fun r6 τ6 =>
  xbd (f_c_X5_turn g x0 x1 τ6) fun r7 τ7 =>
  (cR τ7 100 b2).bind fun b8 =>
  if gT g b8 = 2 then
  (gR g 206 b8).bind fun b10 =>
  if gT g b10 = 105 then
  if xin x1 (gN g b10) = true then
  if gT g (gA g b10 x1.toNatClampNeg) = 100 then
  if xin x2 (gN g (gA g b10 x1.toNatClampNeg)) = true then
  (gR g 606 x0).bind fun b13 =>
  if gT g b13 = 105 then
  if xin x1 (gN g b13) = true then
  if gT g (gA g b13 x1.toNatClampNeg) = 100 then
  if xin x2 (gN g (gA g b13 x1.toNatClampNeg)) = true then
  some (((((r6 + r7) - (cA τ7 (gA g b10 x1.toNatClampNeg) x2.toNatClampNeg)) - (cA τ7 (gA g b13 x1.toNatClampNeg) x2.toNatClampNeg)).toInt64, τ7))
  else none
  else none
  else none
  else none
  else none
  else none
  else none
  else none
  else none
  else
  (gR g 106 b2).bind fun b16 =>
  if gT g b16 = 5 then
  (gR g 500 b16).bind fun b18 =>
  if gT g b18 = 101 then
  if xin 0 (gN g b18) = true then
  if xin 1 (gN g b18) = true then
  xbd (f_c_X5_turn g x0 x1 (uM (uM τ b18 (0 : Int32).toNatClampNeg x1.toInt64) b18 (1 : Int32).toNatClampNeg x2.toInt64)) fun r20 τ20 =>
  if xin 2 (gN g b18) = true then
  if xin 3 (gN g b18) = true then
  (cR (uM (uM τ20 b18 (2 : Int32).toNatClampNeg r20.toInt64) b18 (3 : Int32).toNatClampNeg ((cI (uM τ20 b18 (2 : Int32).toNatClampNeg r20.toInt64) 600 x0).toInt64)) 100 b2).bind fun b21 =>
  if gT g b21 = 2 then
  (gR g 206 b21).bind fun b23 =>
  if gT g b23 = 105 then
  if xin x1 (gN g b23) = true then
  if gT g (gA g b23 x1.toNatClampNeg) = 100 then
  if xin x2 (gN g (gA g b23 x1.toNatClampNeg)) = true then
  if xin 4 (gN g b18) = true then
  (gR g 606 x0).bind fun b26 =>
  if gT g b26 = 105 then
  if xin x1 (gN g b26) = true then
  if gT g (gA g b26 x1.toNatClampNeg) = 100 then
  if xin x2 (gN g (gA g b26 x1.toNatClampNeg)) = true then
  if xin 5 (gN g b18) = true then
  xbd (f_c_X5_pay g x0 x1 (uM (uM (uM (uM τ20 b18 (2 : Int32).toNatClampNeg r20.toInt64) b18 (3 : Int32).toNatClampNeg ((cI (uM τ20 b18 (2 : Int32).toNatClampNeg r20.toInt64) 600 x0).toInt64)) b18 (4 : Int32).toNatClampNeg ((cA (uM (uM τ20 b18 (2 : Int32).toNatClampNeg r20.toInt64) b18 (3 : Int32).toNatClampNeg ((cI (uM τ20 b18 (2 : Int32).toNatClampNeg r20.toInt64) 600 x0).toInt64)) (gA g b23 x1.toNatClampNeg) x2.toNatClampNeg).toInt64)) b18 (5 : Int32).toNatClampNeg ((cA (uM (uM (uM τ20 b18 (2 : Int32).toNatClampNeg r20.toInt64) b18 (3 : Int32).toNatClampNeg ((cI (uM τ20 b18 (2 : Int32).toNatClampNeg r20.toInt64) 600 x0).toInt64)) b18 (4 : Int32).toNatClampNeg ((cA (uM (uM τ20 b18 (2 : Int32).toNatClampNeg r20.toInt64) b18 (3 : Int32).toNatClampNeg ((cI (uM τ20 b18 (2 : Int32).toNatClampNeg r20.toInt64) 600 x0).toInt64)) (gA g b23 x1.toNatClampNeg) x2.toNatClampNeg).toInt64)) (gA g b26 x1.toNatClampNeg) x2.toNatClampNeg).toInt64))) fun r29 τ29 =>
  if xin 6 (gN g b18) = true then
  (gR g 607 x0).bind fun b30 =>
  if gT g b30 = 105 then
  if xin x1 (gN g b30) = true then
  if gT g (gA g b30 x1.toNatClampNeg) = 100 then
  if xin x2 (gN g (gA g b30 x1.toNatClampNeg)) = true then
  if xin 7 (gN g b18) = true then
  (cR (uM (uM τ29 b18 (6 : Int32).toNatClampNeg r29.toInt64) b18 (7 : Int32).toNatClampNeg ((cA (uM τ29 b18 (6 : Int32).toNatClampNeg r29.toInt64) (gA g b30 x1.toNatClampNeg) x2.toNatClampNeg).toInt64)) 100 b2).bind fun b33 =>
  if gT g b33 = 2 then
  (cR (uM (uM τ29 b18 (6 : Int32).toNatClampNeg r29.toInt64) b18 (7 : Int32).toNatClampNeg ((cA (uM τ29 b18 (6 : Int32).toNatClampNeg r29.toInt64) (gA g b30 x1.toNatClampNeg) x2.toNatClampNeg).toInt64)) 209 b33).bind fun b35 =>
  xbd (d_at 64 b35 b16 g (uM (uM τ29 b18 (6 : Int32).toNatClampNeg r29.toInt64) b18 (7 : Int32).toNatClampNeg ((cA (uM τ29 b18 (6 : Int32).toNatClampNeg r29.toInt64) (gA g b30 x1.toNatClampNeg) x2.toNatClampNeg).toInt64))) fun r36 τ36 =>
  some ((r36, τ36))
  else none
  else none
  else none
  else none
  else none
  else none
  else none
  else none
  else none
  else none
  else none
  else none
  else none
  else none
  else none
  else none
  else none
  else none
  else none
  else none
  else none
  else none
  else none
  else none
  else none
  else none
  else none
theorem ok_f_c_X5_eats {D : CD} {P : CP} {K : xK} {g : CG} {Z : Option Value × CS} {x0 : Nat} {x1 : Int32} {x2 : Int32} {τ : CC} {o_ : (Int64 × CC)} (hf : f_c_X5_eats g x0 x1 x2 τ = some o_) (kr : ∀ r_ : (Int64 × CC), o_ = r_ → Z = (some (.long r_.1), (g, r_.2))) : xV (wC D P) K mX5_eats (xQ (wC D P) K Z) (g, τ) 0 [(0, .ref x0), (1, .int x1), (2, .int x2)] [] := by
  unfold f_c_X5_eats at hf
  refine xr_aload_n (pc := 0) 0 dX5_eats_0 rfl rfl ?_
  obtain ⟨ht1, hf⟩ := xo_if hf
  obtain ⟨b2, hb2, hf⟩ := xo_bind hf
  refine yc_getFs (pc := 1) 6 10 610 (gKo ht1 (by decide)) (by decide) (by decide) (by decide) rfl rfl hb2 q454 (ys_eq rfl) rfl dX5_eats_1 ?_
  obtain ⟨ht3, hf⟩ := xo_if hf
  obtain ⟨b4, hb4, hf⟩ := xo_bind hf
  refine yc_getRsN (pc := 4) 1 0 100 (gKo ht3 (by decide)) (by decide) (by decide) (by decide) rfl rfl hb4 q483 (ys_eq rfl) rfl dX5_eats_4 ?_
  obtain ⟨ht5, hf⟩ := xo_if hf
  refine yc_getRN (pc := 7) 2 9 209 (gKo ht5 (by decide)) (by decide) (by decide) (by decide) rfl rfl q282 (ys_eq rfl) rfl dX5_eats_7 ?_
  refine xr_ifnonnull (pc := 10) 50 dX5_eats_10 (by decide) (fun c_ => ?_) (fun c_ => ?_)
  · have hf := xo_pos c_ hf
    refine xr_aload_n (pc := 13) 0 dX5_eats_13 rfl rfl ?_
    refine xr_iload_n (pc := 14) 1 dX5_eats_14 rfl rfl ?_
    obtain ⟨r6, τ6, hτ6, hf⟩ := xo_bd hf
    refine call_f_c_X5_pay_X5_109 (pc := 15) hτ6 (gKo ht1 (by decide)) rfl (Nat.le_of_ble_eq_true rfl) (Nat.le_of_ble_eq_true rfl) (Nat.le_of_ble_eq_true rfl) dX5_eats_15 ?_
    refine xr_aload_n (pc := 18) 0 dX5_eats_18 rfl rfl ?_
    refine xr_iload_n (pc := 19) 1 dX5_eats_19 rfl rfl ?_
    obtain ⟨r7, τ7, hτ7, hf⟩ := xo_bd hf
    refine call_f_c_X5_turn_X5_112 (pc := 20) hτ7 (gKo ht1 (by decide)) rfl (Nat.le_of_ble_eq_true rfl) (Nat.le_of_ble_eq_true rfl) (Nat.le_of_ble_eq_true rfl) dX5_eats_20 ?_
    refine xr_iadd (pc := 23) dX5_eats_23 ?_
    refine xr_aload_n (pc := 24) 0 dX5_eats_24 rfl rfl ?_
    refine yc_getFs (pc := 25) 6 10 610 (gKo ht1 (by decide)) (by decide) (by decide) (by decide) rfl rfl hb2 q454 (ys_eq rfl) rfl dX5_eats_25 ?_
    obtain ⟨b8, hb8, hf⟩ := xo_bind hf
    refine yc_getRsN (pc := 28) 1 0 100 (gKo ht3 (by decide)) (by decide) (by decide) (by decide) rfl rfl hb8 q483 (ys_eq rfl) rfl dX5_eats_28 ?_
    obtain ⟨ht9, hf⟩ := xo_if hf
    obtain ⟨b10, hb10, hf⟩ := xo_bind hf
    refine yc_getFsN (pc := 31) 2 6 206 (gKo ht9 (by decide)) (by decide) (by decide) (by decide) rfl rfl hb10 q273 (ys_eq rfl) rfl dX5_eats_31 ?_
    refine xr_iload_n (pc := 34) 1 dX5_eats_34 rfl rfl ?_
    obtain ⟨ht11, hf⟩ := xo_if hf
    obtain ⟨hi_, hf⟩ := xo_if hf
    refine yc_aaldF (pc := 35) 105 (gKo ht11 (by decide)) (by decide) (by decide) rfl rfl hi_ dX5_eats_35 ?_
    refine xr_iload_n (pc := 36) 2 dX5_eats_36 rfl rfl ?_
    obtain ⟨ht12, hf⟩ := xo_if hf
    obtain ⟨hi_, hf⟩ := xo_if hf
    refine yc_iald (pc := 37) (gKo ht12 (by decide)) hi_ dX5_eats_37 ?_
    refine xr_isub (pc := 38) dX5_eats_38 ?_
    refine xr_aload_n (pc := 39) 0 dX5_eats_39 rfl rfl ?_
    obtain ⟨b13, hb13, hf⟩ := xo_bind hf
    refine yc_getFs (pc := 40) 6 6 606 (gKo ht1 (by decide)) (by decide) (by decide) (by decide) rfl rfl hb13 q446 (ys_eq rfl) rfl dX5_eats_40 ?_
    refine xr_iload_n (pc := 43) 1 dX5_eats_43 rfl rfl ?_
    obtain ⟨ht14, hf⟩ := xo_if hf
    obtain ⟨hi_, hf⟩ := xo_if hf
    refine yc_aaldF (pc := 44) 105 (gKo ht14 (by decide)) (by decide) (by decide) rfl rfl hi_ dX5_eats_44 ?_
    refine xr_iload_n (pc := 45) 2 dX5_eats_45 rfl rfl ?_
    obtain ⟨ht15, hf⟩ := xo_if hf
    obtain ⟨hi_, hf⟩ := xo_if hf
    refine yc_iald (pc := 46) (gKo ht15 (by decide)) hi_ dX5_eats_46 ?_
    refine xr_isub (pc := 47) dX5_eats_47 ?_
    refine xr_i2l (pc := 48) dX5_eats_48 ?_
    rw [kr _ (Option.some.inj hf).symm]
    exact xr_lret (pc := 49) dX5_eats_49 rfl
  · have hf := xo_neg c_ hf
    refine xr_aload_n (pc := 50) 0 dX5_eats_50 rfl rfl ?_
    refine yc_getFs (pc := 51) 6 10 610 (gKo ht1 (by decide)) (by decide) (by decide) (by decide) rfl rfl hb2 q454 (ys_eq rfl) rfl dX5_eats_51 ?_
    obtain ⟨b16, hb16, hf⟩ := xo_bind hf
    refine yc_getFsN (pc := 54) 1 6 106 (gKo ht3 (by decide)) (by decide) (by decide) (by decide) rfl rfl hb16 q492 (ys_eq rfl) rfl dX5_eats_54 ?_
    obtain ⟨ht17, hf⟩ := xo_if hf
    obtain ⟨b18, hb18, hf⟩ := xo_bind hf
    refine yc_getFsN (pc := 57) 5 0 500 (gKo ht17 (by decide)) (by decide) (by decide) (by decide) rfl rfl hb18 q421 (ys_eq rfl) rfl dX5_eats_57 ?_
    refine xr_iconst (pc := 60) dX5_eats_60 xci_0 ?_
    refine xr_iload_n (pc := 61) 1 dX5_eats_61 rfl rfl ?_
    refine xr_i2l (pc := 62) dX5_eats_62 ?_
    obtain ⟨ht19, hf⟩ := xo_if hf
    obtain ⟨hi_, hf⟩ := xo_if hf
    refine yc_last (pc := 63) ht19 hi_ dX5_eats_63 ?_
    refine xr_aload_n (pc := 64) 0 dX5_eats_64 rfl rfl ?_
    refine yc_getFs (pc := 65) 6 10 610 (gKo ht1 (by decide)) (by decide) (by decide) (by decide) rfl rfl hb2 q454 (ys_eq rfl) rfl dX5_eats_65 ?_
    refine yc_getFsN (pc := 68) 1 6 106 (gKo ht3 (by decide)) (by decide) (by decide) (by decide) rfl rfl hb16 q492 (ys_eq rfl) rfl dX5_eats_68 ?_
    refine yc_getFsN (pc := 71) 5 0 500 (gKo ht17 (by decide)) (by decide) (by decide) (by decide) rfl rfl hb18 q421 (ys_eq rfl) rfl dX5_eats_71 ?_
    refine xr_iconst (pc := 74) dX5_eats_74 xci_1 ?_
    refine xr_iload_n (pc := 75) 2 dX5_eats_75 rfl rfl ?_
    refine xr_i2l (pc := 76) dX5_eats_76 ?_
    obtain ⟨hi_, hf⟩ := xo_if hf
    refine yc_last (pc := 77) ht19 hi_ dX5_eats_77 ?_
    refine xr_aload_n (pc := 78) 0 dX5_eats_78 rfl rfl ?_
    refine yc_getFs (pc := 79) 6 10 610 (gKo ht1 (by decide)) (by decide) (by decide) (by decide) rfl rfl hb2 q454 (ys_eq rfl) rfl dX5_eats_79 ?_
    refine yc_getFsN (pc := 82) 1 6 106 (gKo ht3 (by decide)) (by decide) (by decide) (by decide) rfl rfl hb16 q492 (ys_eq rfl) rfl dX5_eats_82 ?_
    refine yc_getFsN (pc := 85) 5 0 500 (gKo ht17 (by decide)) (by decide) (by decide) (by decide) rfl rfl hb18 q421 (ys_eq rfl) rfl dX5_eats_85 ?_
    refine xr_iconst (pc := 88) dX5_eats_88 xci_2 ?_
    refine xr_aload_n (pc := 89) 0 dX5_eats_89 rfl rfl ?_
    refine xr_iload_n (pc := 90) 1 dX5_eats_90 rfl rfl ?_
    obtain ⟨r20, τ20, hτ20, hf⟩ := xo_bd hf
    refine call_f_c_X5_turn_X5_112 (pc := 91) hτ20 (gKo ht1 (by decide)) rfl (Nat.le_of_ble_eq_true rfl) (Nat.le_of_ble_eq_true rfl) (Nat.le_of_ble_eq_true rfl) dX5_eats_91 ?_
    refine xr_i2l (pc := 94) dX5_eats_94 ?_
    obtain ⟨hi_, hf⟩ := xo_if hf
    refine yc_last (pc := 95) ht19 hi_ dX5_eats_95 ?_
    refine xr_aload_n (pc := 96) 0 dX5_eats_96 rfl rfl ?_
    refine yc_getFs (pc := 97) 6 10 610 (gKo ht1 (by decide)) (by decide) (by decide) (by decide) rfl rfl hb2 q454 (ys_eq rfl) rfl dX5_eats_97 ?_
    refine yc_getFsN (pc := 100) 1 6 106 (gKo ht3 (by decide)) (by decide) (by decide) (by decide) rfl rfl hb16 q492 (ys_eq rfl) rfl dX5_eats_100 ?_
    refine yc_getFsN (pc := 103) 5 0 500 (gKo ht17 (by decide)) (by decide) (by decide) (by decide) rfl rfl hb18 q421 (ys_eq rfl) rfl dX5_eats_103 ?_
    refine xr_iconst (pc := 106) dX5_eats_106 xci_3 ?_
    refine xr_aload_n (pc := 107) 0 dX5_eats_107 rfl rfl ?_
    refine yc_getI (pc := 108) 6 0 600 (gKo ht1 (by decide)) (by decide) (by decide) (by decide) rfl rfl q434 (ys_eq rfl) rfl dX5_eats_108 ?_
    refine xr_i2l (pc := 111) dX5_eats_111 ?_
    obtain ⟨hi_, hf⟩ := xo_if hf
    refine yc_last (pc := 112) ht19 hi_ dX5_eats_112 ?_
    refine xr_aload_n (pc := 113) 0 dX5_eats_113 rfl rfl ?_
    refine yc_getFs (pc := 114) 6 10 610 (gKo ht1 (by decide)) (by decide) (by decide) (by decide) rfl rfl hb2 q454 (ys_eq rfl) rfl dX5_eats_114 ?_
    refine yc_getFsN (pc := 117) 1 6 106 (gKo ht3 (by decide)) (by decide) (by decide) (by decide) rfl rfl hb16 q492 (ys_eq rfl) rfl dX5_eats_117 ?_
    refine yc_getFsN (pc := 120) 5 0 500 (gKo ht17 (by decide)) (by decide) (by decide) (by decide) rfl rfl hb18 q421 (ys_eq rfl) rfl dX5_eats_120 ?_
    refine xr_iconst (pc := 123) dX5_eats_123 xci_4 ?_
    refine xr_aload_n (pc := 124) 0 dX5_eats_124 rfl rfl ?_
    refine yc_getFs (pc := 125) 6 10 610 (gKo ht1 (by decide)) (by decide) (by decide) (by decide) rfl rfl hb2 q454 (ys_eq rfl) rfl dX5_eats_125 ?_
    obtain ⟨b21, hb21, hf⟩ := xo_bind hf
    refine yc_getRsN (pc := 128) 1 0 100 (gKo ht3 (by decide)) (by decide) (by decide) (by decide) rfl rfl hb21 q483 (ys_eq rfl) rfl dX5_eats_128 ?_
    obtain ⟨ht22, hf⟩ := xo_if hf
    obtain ⟨b23, hb23, hf⟩ := xo_bind hf
    refine yc_getFsN (pc := 131) 2 6 206 (gKo ht22 (by decide)) (by decide) (by decide) (by decide) rfl rfl hb23 q273 (ys_eq rfl) rfl dX5_eats_131 ?_
    refine xr_iload_n (pc := 134) 1 dX5_eats_134 rfl rfl ?_
    obtain ⟨ht24, hf⟩ := xo_if hf
    obtain ⟨hi_, hf⟩ := xo_if hf
    refine yc_aaldF (pc := 135) 105 (gKo ht24 (by decide)) (by decide) (by decide) rfl rfl hi_ dX5_eats_135 ?_
    refine xr_iload_n (pc := 136) 2 dX5_eats_136 rfl rfl ?_
    obtain ⟨ht25, hf⟩ := xo_if hf
    obtain ⟨hi_, hf⟩ := xo_if hf
    refine yc_iald (pc := 137) (gKo ht25 (by decide)) hi_ dX5_eats_137 ?_
    refine xr_i2l (pc := 138) dX5_eats_138 ?_
    obtain ⟨hi_, hf⟩ := xo_if hf
    refine yc_last (pc := 139) ht19 hi_ dX5_eats_139 ?_
    refine xr_aload_n (pc := 140) 0 dX5_eats_140 rfl rfl ?_
    refine yc_getFs (pc := 141) 6 10 610 (gKo ht1 (by decide)) (by decide) (by decide) (by decide) rfl rfl hb2 q454 (ys_eq rfl) rfl dX5_eats_141 ?_
    refine yc_getFsN (pc := 144) 1 6 106 (gKo ht3 (by decide)) (by decide) (by decide) (by decide) rfl rfl hb16 q492 (ys_eq rfl) rfl dX5_eats_144 ?_
    refine yc_getFsN (pc := 147) 5 0 500 (gKo ht17 (by decide)) (by decide) (by decide) (by decide) rfl rfl hb18 q421 (ys_eq rfl) rfl dX5_eats_147 ?_
    refine xr_iconst (pc := 150) dX5_eats_150 xci_5 ?_
    refine xr_aload_n (pc := 151) 0 dX5_eats_151 rfl rfl ?_
    obtain ⟨b26, hb26, hf⟩ := xo_bind hf
    refine yc_getFs (pc := 152) 6 6 606 (gKo ht1 (by decide)) (by decide) (by decide) (by decide) rfl rfl hb26 q446 (ys_eq rfl) rfl dX5_eats_152 ?_
    refine xr_iload_n (pc := 155) 1 dX5_eats_155 rfl rfl ?_
    obtain ⟨ht27, hf⟩ := xo_if hf
    obtain ⟨hi_, hf⟩ := xo_if hf
    refine yc_aaldF (pc := 156) 105 (gKo ht27 (by decide)) (by decide) (by decide) rfl rfl hi_ dX5_eats_156 ?_
    refine xr_iload_n (pc := 157) 2 dX5_eats_157 rfl rfl ?_
    obtain ⟨ht28, hf⟩ := xo_if hf
    obtain ⟨hi_, hf⟩ := xo_if hf
    refine yc_iald (pc := 158) (gKo ht28 (by decide)) hi_ dX5_eats_158 ?_
    refine xr_i2l (pc := 159) dX5_eats_159 ?_
    obtain ⟨hi_, hf⟩ := xo_if hf
    refine yc_last (pc := 160) ht19 hi_ dX5_eats_160 ?_
    refine xr_aload_n (pc := 161) 0 dX5_eats_161 rfl rfl ?_
    refine yc_getFs (pc := 162) 6 10 610 (gKo ht1 (by decide)) (by decide) (by decide) (by decide) rfl rfl hb2 q454 (ys_eq rfl) rfl dX5_eats_162 ?_
    refine yc_getFsN (pc := 165) 1 6 106 (gKo ht3 (by decide)) (by decide) (by decide) (by decide) rfl rfl hb16 q492 (ys_eq rfl) rfl dX5_eats_165 ?_
    refine yc_getFsN (pc := 168) 5 0 500 (gKo ht17 (by decide)) (by decide) (by decide) (by decide) rfl rfl hb18 q421 (ys_eq rfl) rfl dX5_eats_168 ?_
    refine xr_bipush (pc := 171) dX5_eats_171 xcb_6 ?_
    refine xr_aload_n (pc := 173) 0 dX5_eats_173 rfl rfl ?_
    refine xr_iload_n (pc := 174) 1 dX5_eats_174 rfl rfl ?_
    obtain ⟨r29, τ29, hτ29, hf⟩ := xo_bd hf
    refine call_f_c_X5_pay_X5_109 (pc := 175) hτ29 (gKo ht1 (by decide)) rfl (Nat.le_of_ble_eq_true rfl) (Nat.le_of_ble_eq_true rfl) (Nat.le_of_ble_eq_true rfl) dX5_eats_175 ?_
    refine xr_i2l (pc := 178) dX5_eats_178 ?_
    obtain ⟨hi_, hf⟩ := xo_if hf
    refine yc_last (pc := 179) ht19 hi_ dX5_eats_179 ?_
    refine xr_aload_n (pc := 180) 0 dX5_eats_180 rfl rfl ?_
    refine yc_getFs (pc := 181) 6 10 610 (gKo ht1 (by decide)) (by decide) (by decide) (by decide) rfl rfl hb2 q454 (ys_eq rfl) rfl dX5_eats_181 ?_
    refine yc_getFsN (pc := 184) 1 6 106 (gKo ht3 (by decide)) (by decide) (by decide) (by decide) rfl rfl hb16 q492 (ys_eq rfl) rfl dX5_eats_184 ?_
    refine yc_getFsN (pc := 187) 5 0 500 (gKo ht17 (by decide)) (by decide) (by decide) (by decide) rfl rfl hb18 q421 (ys_eq rfl) rfl dX5_eats_187 ?_
    refine xr_bipush (pc := 190) dX5_eats_190 xcb_7 ?_
    refine xr_aload_n (pc := 192) 0 dX5_eats_192 rfl rfl ?_
    obtain ⟨b30, hb30, hf⟩ := xo_bind hf
    refine yc_getFs (pc := 193) 6 7 607 (gKo ht1 (by decide)) (by decide) (by decide) (by decide) rfl rfl hb30 q448 (ys_eq rfl) rfl dX5_eats_193 ?_
    refine xr_iload_n (pc := 196) 1 dX5_eats_196 rfl rfl ?_
    obtain ⟨ht31, hf⟩ := xo_if hf
    obtain ⟨hi_, hf⟩ := xo_if hf
    refine yc_aaldF (pc := 197) 105 (gKo ht31 (by decide)) (by decide) (by decide) rfl rfl hi_ dX5_eats_197 ?_
    refine xr_iload_n (pc := 198) 2 dX5_eats_198 rfl rfl ?_
    obtain ⟨ht32, hf⟩ := xo_if hf
    obtain ⟨hi_, hf⟩ := xo_if hf
    refine yc_iald (pc := 199) (gKo ht32 (by decide)) hi_ dX5_eats_199 ?_
    refine xr_i2l (pc := 200) dX5_eats_200 ?_
    obtain ⟨hi_, hf⟩ := xo_if hf
    refine yc_last (pc := 201) ht19 hi_ dX5_eats_201 ?_
    refine xr_aload_n (pc := 202) 0 dX5_eats_202 rfl rfl ?_
    refine yc_getFs (pc := 203) 6 10 610 (gKo ht1 (by decide)) (by decide) (by decide) (by decide) rfl rfl hb2 q454 (ys_eq rfl) rfl dX5_eats_203 ?_
    obtain ⟨b33, hb33, hf⟩ := xo_bind hf
    refine yc_getRsN (pc := 206) 1 0 100 (gKo ht3 (by decide)) (by decide) (by decide) (by decide) rfl rfl hb33 q483 (ys_eq rfl) rfl dX5_eats_206 ?_
    obtain ⟨ht34, hf⟩ := xo_if hf
    refine yc_getRN (pc := 209) 2 9 209 (gKo ht34 (by decide)) (by decide) (by decide) (by decide) rfl rfl q282 (ys_eq rfl) rfl dX5_eats_209 ?_
    refine xr_aload_n (pc := 212) 0 dX5_eats_212 rfl rfl ?_
    refine yc_getFs (pc := 213) 6 10 610 (gKo ht1 (by decide)) (by decide) (by decide) (by decide) rfl rfl hb2 q454 (ys_eq rfl) rfl dX5_eats_213 ?_
    refine yc_getFsN (pc := 216) 1 6 106 (gKo ht3 (by decide)) (by decide) (by decide) (by decide) rfl rfl hb16 q492 (ys_eq rfl) rfl dX5_eats_216 ?_
    obtain ⟨b35, hb35, hf⟩ := xo_bind hf
    rw [hb35]; change xV _ _ _ _ _ _ _ [.ref b16, .ref b35]
    obtain ⟨r36, τ36, hτ36, hf⟩ := xo_bd hf
    refine call_d_at_X5_128 (pc := 219) (all_at 64) hτ36 rfl (Nat.le_of_ble_eq_true rfl) (Nat.le_of_ble_eq_true rfl) (Nat.le_of_ble_eq_true rfl) dX5_eats_219 ?_
    rw [kr _ (Option.some.inj hf).symm]
    exact xr_lret (pc := 222) dX5_eats_222 rfl
theorem met_f_c_X5_eats (l : Launch) {D : CD} {P : CP} {g : CG} {x0 : Nat} {x1 : Int32} {x2 : Int32} {τ : CC} {o_ : (Int64 × CC)} (hf : f_c_X5_eats g x0 x1 x2 τ = some o_) : xMet (wC D P) l yX5_eats (ws_ yX5_eats cX5_eats 3 (some .long)) 78 4680 (grc g) (grs g) [.ref x0, .int x1, .int x2] (g, τ) (some (.long o_.1), (g, o_.2)) := 
  xMet_of (by decide) (Nat.le_of_ble_eq_true rfl) KC_moved RPC_of (fun K _ _ _ => ok_f_c_X5_eats hf (fun _ h => by rw [h]))
theorem hd_f_c_X5_eats : yX5_eats.cls ≠ "java/lang/invoke/MethodHandle" ∧ yX5_eats.cls ≠ "java/lang/invoke/VarHandle" ∧ (parseMethodDescriptor yX5_eats.desc).map (fun d => d.parameters.length) = some 2 := by decide +kernel
theorem call_f_c_X5_eats_X0_260 {D : CD} {P : CP} {K : xK} {M : xM} {Q : State → Prop} {g : CG} {c : CC} {x0 : Nat} {x1 : Int32} {x2 : Int32} {pc : Nat} {loc : List (Nat × Value)} {st : List Value} {r : Int64} {c1 : CC} (hf : f_c_X5_eats g x0 x1 x2 c = some (r, c1)) (hr : gK g x0 = 6) (ho : M.2.2.1 = RX0) (hfr : 79 ≤ M.2.2.2.1) (hlo : 4702 ≤ M.2.2.2.2.1) (hcat : (st.map fun v => v.category).sum ≤ 8) (d : decode M.1 pc = .ok (.invokevirtual 260, 3)) (k : xV (wC D P) K M Q (g, c1) (pc + 3) loc (.long r :: st)) : xV (wC D P) K M Q (g, c) pc loc (.int x2 :: .int x1 :: .ref x0 :: st) :=
  yc_callV (As := [.int x1, .int x2]) (rest := st) (met_f_c_X5_eats K.2.1 hf) (lw_V q1450 q1451 q1452 q185 q1453) ⟨rfl, hd_f_c_X5_eats⟩ ho hfr hlo rfl hr (by decide) (by decide) rfl rfl hcat d k
abbrev mX0_eats : xM := (cX0_eats, 3, RX0, 79, 4740, (some .long), "eats")
def f_c_X0_eats (g : CG) (x0 : Nat) (x1 : Int32) (x2 : Int32) (τ : CC) : Option (Int64 × CC) :=
  if gT g x0 = 1 then
  xbd (f_c_X0_isCell g x0 x1 x2 τ) fun r2 τ2 =>
  if r2 = 0 then
  some (((-1000000000000000), τ2))
  else
  (gR g 109 x0).bind fun b3 =>
  if gT g b3 = 6 then
  xbd (f_c_X5_eats g b3 x1 x2 τ2) fun r5 τ5 =>
  some ((r5, τ5))
  else none
  else none
theorem ok_f_c_X0_eats {D : CD} {P : CP} {K : xK} {g : CG} {Z : Option Value × CS} {x0 : Nat} {x1 : Int32} {x2 : Int32} {τ : CC} {o_ : (Int64 × CC)} (hf : f_c_X0_eats g x0 x1 x2 τ = some o_) (kr : ∀ r_ : (Int64 × CC), o_ = r_ → Z = (some (.long r_.1), (g, r_.2))) : xV (wC D P) K mX0_eats (xQ (wC D P) K Z) (g, τ) 0 [(0, .ref x0), (1, .int x1), (2, .int x2)] [] := by
  unfold f_c_X0_eats at hf
  refine xr_aload_n (pc := 0) 0 dX0_eats_0 rfl rfl ?_
  refine xr_iload_n (pc := 1) 1 dX0_eats_1 rfl rfl ?_
  refine xr_iload_n (pc := 2) 2 dX0_eats_2 rfl rfl ?_
  obtain ⟨ht1, hf⟩ := xo_if hf
  obtain ⟨r2, τ2, hτ2, hf⟩ := xo_bd hf
  refine call_f_c_X0_isCell_X0_250 (pc := 3) hτ2 (gKo ht1 (by decide)) rfl (Nat.le_of_ble_eq_true rfl) (Nat.le_of_ble_eq_true rfl) (Nat.le_of_ble_eq_true rfl) dX0_eats_3 ?_
  refine xr_if_eq (pc := 6) 21 dX0_eats_6 (by decide) (fun c_ => ?_) (fun c_ => ?_)
  · have hf := xo_pos c_ hf
    refine xr_ldc2 (pc := 21) q1457 dX0_eats_21 ?_
    rw [kr _ (Option.some.inj hf).symm]
    exact xr_lret (pc := 24) dX0_eats_24 rfl
  · have hf := xo_neg c_ hf
    refine xr_aload_n (pc := 9) 0 dX0_eats_9 rfl rfl ?_
    obtain ⟨b3, hb3, hf⟩ := xo_bind hf
    refine yc_getFs (pc := 10) 1 9 109 (gKo ht1 (by decide)) (by decide) (by decide) (by decide) rfl rfl hb3 q495 (ys_eq rfl) rfl dX0_eats_10 ?_
    refine xr_iload_n (pc := 13) 1 dX0_eats_13 rfl rfl ?_
    refine xr_iload_n (pc := 14) 2 dX0_eats_14 rfl rfl ?_
    obtain ⟨ht4, hf⟩ := xo_if hf
    obtain ⟨r5, τ5, hτ5, hf⟩ := xo_bd hf
    refine call_f_c_X5_eats_X0_260 (pc := 15) hτ5 (gKo ht4 (by decide)) rfl (Nat.le_of_ble_eq_true rfl) (Nat.le_of_ble_eq_true rfl) (Nat.le_of_ble_eq_true rfl) dX0_eats_15 ?_
    refine xr_goto (pc := 18) 24 dX0_eats_18 (by decide) ?_
    rw [kr _ (Option.some.inj hf).symm]
    exact xr_lret (pc := 24) dX0_eats_24 rfl
theorem met_f_c_X0_eats (l : Launch) {D : CD} {P : CP} {g : CG} {x0 : Nat} {x1 : Int32} {x2 : Int32} {τ : CC} {o_ : (Int64 × CC)} (hf : f_c_X0_eats g x0 x1 x2 τ = some o_) : xMet (wC D P) l yX0_eats (ws_ yX0_eats cX0_eats 3 (some .long)) 79 4740 (grc g) (grs g) [.ref x0, .int x1, .int x2] (g, τ) (some (.long o_.1), (g, o_.2)) := 
  xMet_of (by decide) (Nat.le_of_ble_eq_true rfl) KC_moved RPC_of (fun K _ _ _ => ok_f_c_X0_eats hf (fun _ h => by rw [h]))
abbrev mX5_bendsOf : xM := (cX5_bendsOf, 4, RX5, 80, 4800, (some .int), "bendsOf")
def Jc_X5_bendsOf_43 (g : CG) (x0 : Nat) (x1 : Int32) (x3 : Int32) (s0 : Int32) (s1 : Int32) (τ : CC) : Option ((Int32 × Int32 × CC) ⊕ ((Int32 × CC))) :=
  some (.inl (s1 + s0, x3 + 1, τ))
theorem ok_Jc_X5_bendsOf_43 {D : CD} {P : CP} {K : xK} {g : CG} {Z : Option Value × CS} {x0 : Nat} {x1 : Int32} {x3 : Int32} {s0 : Int32} {s1 : Int32} {τ : CC} {o_ : ((Int32 × Int32 × CC) ⊕ ((Int32 × CC)))} (hf : Jc_X5_bendsOf_43 g x0 x1 x3 s0 s1 τ = some o_) (kc : ∀ s_ : Int32 × Int32 × CC, o_ = .inl s_ → xV (wC D P) K mX5_bendsOf (xQ (wC D P) K Z) (g, s_.2.2) 14 [(0, .ref x0), (1, .int x1), (2, .int s_.1), (3, .int s_.2.1)] []) (ke0 : ∀ e_ : Int32 × CC, o_ = .inr e_ → xV (wC D P) K mX5_bendsOf (xQ (wC D P) K Z) (g, e_.2) 51 [(2, .int e_.1)] []) : xV (wC D P) K mX5_bendsOf (xQ (wC D P) K Z) (g, τ) 43 [(0, .ref x0), (1, .int x1), (3, .int x3)] [.int s0, .int s1] := by
  unfold Jc_X5_bendsOf_43 at hf
  refine xr_iadd (pc := 43) dX5_bendsOf_43 ?_
  refine xr_istore_n (pc := 44) (loc' := [(2, .int (s1 + s0)), (0, .ref x0), (1, .int x1), (3, .int x3)]) dX5_bendsOf_44 rfl (by decide) rfl ?_
  refine xr_iinc (pc := 45) (loc' := [(3, .int (x3 + 1)), (2, .int (s1 + s0)), (0, .ref x0), (1, .int x1)]) 3 dX5_bendsOf_45 rfl xci_1 (by decide) rfl ?_
  refine xr_goto (pc := 48) 14 dX5_bendsOf_48 (by decide) ?_
  refine xV_sub [2, 3, 1, 0] rfl ?_
  exact kc _ (Option.some.inj hf).symm
def Bc_X5_bendsOf_14 (g : CG) (x0 : Nat) (x1 : Int32) (x2 : Int32) (x3 : Int32) (τ : CC) : Option ((Int32 × Int32 × CC) ⊕ ((Int32 × CC))) :=
  if gT g x0 = 6 then
  (gR g 610 x0).bind fun b7 =>
  if gT g b7 = 1 then
  xbd (f_c_X0_lordOf g b7 x1 τ) fun r9 τ9 =>
  if gT g r9 = 7 then
  if (cI τ9 702 r9) < x3 then
  some (.inr (x2, τ9))
  else
  xbd (f_c_X5_isBend g x0 x3 τ9) fun r11 τ11 =>
  if r11 = 0 then
  Jc_X5_bendsOf_43 g x0 x1 x3 0 x2 τ11
  else
  Jc_X5_bendsOf_43 g x0 x1 x3 1 x2 τ11
  else none
  else none
  else none
theorem ok_Bc_X5_bendsOf_14 {D : CD} {P : CP} {K : xK} {g : CG} {Z : Option Value × CS} {x0 : Nat} {x1 : Int32} {x2 : Int32} {x3 : Int32} {τ : CC} {o_ : ((Int32 × Int32 × CC) ⊕ ((Int32 × CC)))} (hf : Bc_X5_bendsOf_14 g x0 x1 x2 x3 τ = some o_) (kc : ∀ s_ : Int32 × Int32 × CC, o_ = .inl s_ → xV (wC D P) K mX5_bendsOf (xQ (wC D P) K Z) (g, s_.2.2) 14 [(0, .ref x0), (1, .int x1), (2, .int s_.1), (3, .int s_.2.1)] []) (ke0 : ∀ e_ : Int32 × CC, o_ = .inr e_ → xV (wC D P) K mX5_bendsOf (xQ (wC D P) K Z) (g, e_.2) 51 [(2, .int e_.1)] []) : xV (wC D P) K mX5_bendsOf (xQ (wC D P) K Z) (g, τ) 14 [(0, .ref x0), (1, .int x1), (2, .int x2), (3, .int x3)] [] := by
  unfold Bc_X5_bendsOf_14 at hf
  refine xr_iload_n (pc := 14) 3 dX5_bendsOf_14 rfl rfl ?_
  refine xr_aload_n (pc := 15) 0 dX5_bendsOf_15 rfl rfl ?_
  obtain ⟨ht6, hf⟩ := xo_if hf
  obtain ⟨b7, hb7, hf⟩ := xo_bind hf
  refine yc_getFs (pc := 16) 6 10 610 (gKo ht6 (by decide)) (by decide) (by decide) (by decide) rfl rfl hb7 q454 (ys_eq rfl) rfl dX5_bendsOf_16 ?_
  refine xr_iload_n (pc := 19) 1 dX5_bendsOf_19 rfl rfl ?_
  obtain ⟨ht8, hf⟩ := xo_if hf
  obtain ⟨r9, τ9, hτ9, hf⟩ := xo_bd hf
  refine call_f_c_X0_lordOf_X5_64 (pc := 20) hτ9 (gKo ht8 (by decide)) rfl (Nat.le_of_ble_eq_true rfl) (Nat.le_of_ble_eq_true rfl) (Nat.le_of_ble_eq_true rfl) dX5_bendsOf_20 ?_
  obtain ⟨ht10, hf⟩ := xo_if hf
  refine yc_getIN (pc := 23) 7 2 702 (gKo ht10 (by decide)) (by decide) (by decide) (by decide) rfl rfl q875 (ys_eq rfl) rfl dX5_bendsOf_23 ?_
  refine xr_icmp_gt (pc := 26) 51 dX5_bendsOf_26 (by decide) (fun c_ => ?_) (fun c_ => ?_)
  · have hf := xo_pos c_ hf
    refine xV_sub [2] rfl ?_
    exact ke0 _ (Option.some.inj hf).symm
  · have hf := xo_neg c_ hf
    refine xr_iload_n (pc := 29) 2 dX5_bendsOf_29 rfl rfl ?_
    refine xr_aload_n (pc := 30) 0 dX5_bendsOf_30 rfl rfl ?_
    refine xr_iload_n (pc := 31) 3 dX5_bendsOf_31 rfl rfl ?_
    obtain ⟨r11, τ11, hτ11, hf⟩ := xo_bd hf
    refine call_f_c_X5_isBend_X5_138 (pc := 32) hτ11 (gKo ht6 (by decide)) rfl (Nat.le_of_ble_eq_true rfl) (Nat.le_of_ble_eq_true rfl) (Nat.le_of_ble_eq_true rfl) dX5_bendsOf_32 ?_
    refine xr_if_eq (pc := 35) 42 dX5_bendsOf_35 (by decide) (fun c_ => ?_) (fun c_ => ?_)
    · have hf := xo_pos c_ hf
      refine xr_iconst (pc := 42) dX5_bendsOf_42 xci_0 ?_
      refine xV_sub [0, 1, 3] rfl ?_
      exact ok_Jc_X5_bendsOf_43 hf kc ke0
    · have hf := xo_neg c_ hf
      refine xr_iconst (pc := 38) dX5_bendsOf_38 xci_1 ?_
      refine xr_goto (pc := 39) 43 dX5_bendsOf_39 (by decide) ?_
      refine xV_sub [0, 1, 3] rfl ?_
      exact ok_Jc_X5_bendsOf_43 hf kc ke0
def f_c_X5_bendsOf (g : CG) (x0 : Nat) (x1 : Int32) (τ : CC) : Option (Int32 × CC) :=
  if gT g x0 = 6 then
  (gR g 610 x0).bind fun b2 =>
  if gT g b2 = 1 then
  xbd (f_c_X0_lordOf g b2 x1 τ) fun r4 τ4 =>
  if gT g r4 = 7 then
  (itr (fun s_ : Int32 × Int32 × CC => Bc_X5_bendsOf_14 g x0 x1 s_.1 s_.2.1 s_.2.2) 4096 (0, cI τ4 701 r4, τ4)).bind fun b12 =>
  some ((b12.1, b12.2))
  else none
  else none
  else none
theorem ok_f_c_X5_bendsOf {D : CD} {P : CP} {K : xK} {g : CG} {Z : Option Value × CS} {x0 : Nat} {x1 : Int32} {τ : CC} {o_ : (Int32 × CC)} (hf : f_c_X5_bendsOf g x0 x1 τ = some o_) (kr : ∀ r_ : (Int32 × CC), o_ = r_ → Z = (some (.int r_.1), (g, r_.2))) : xV (wC D P) K mX5_bendsOf (xQ (wC D P) K Z) (g, τ) 0 [(0, .ref x0), (1, .int x1)] [] := by
  unfold f_c_X5_bendsOf at hf
  refine xr_iconst (pc := 0) dX5_bendsOf_0 xci_0 ?_
  refine xr_istore_n (pc := 1) (loc' := [(2, .int 0), (0, .ref x0), (1, .int x1)]) dX5_bendsOf_1 rfl (by decide) rfl ?_
  refine xr_aload_n (pc := 2) 1 dX5_bendsOf_2 rfl rfl ?_
  obtain ⟨ht1, hf⟩ := xo_if hf
  obtain ⟨b2, hb2, hf⟩ := xo_bind hf
  refine yc_getFs (pc := 3) 6 10 610 (gKo ht1 (by decide)) (by decide) (by decide) (by decide) rfl rfl hb2 q454 (ys_eq rfl) rfl dX5_bendsOf_3 ?_
  refine xr_iload_n (pc := 6) 2 dX5_bendsOf_6 rfl rfl ?_
  obtain ⟨ht3, hf⟩ := xo_if hf
  obtain ⟨r4, τ4, hτ4, hf⟩ := xo_bd hf
  refine call_f_c_X0_lordOf_X5_64 (pc := 7) hτ4 (gKo ht3 (by decide)) rfl (Nat.le_of_ble_eq_true rfl) (Nat.le_of_ble_eq_true rfl) (Nat.le_of_ble_eq_true rfl) dX5_bendsOf_7 ?_
  obtain ⟨ht5, hf⟩ := xo_if hf
  refine yc_getIN (pc := 10) 7 1 701 (gKo ht5 (by decide)) (by decide) (by decide) (by decide) rfl rfl q872 (ys_eq rfl) rfl dX5_bendsOf_10 ?_
  refine xr_istore_n (pc := 13) (loc' := [(3, .int (cI τ4 701 r4)), (2, .int 0), (0, .ref x0), (1, .int x1)]) dX5_bendsOf_13 rfl (by decide) rfl ?_
  refine xV_sub [2, 3, 1, 0] rfl ?_
  obtain ⟨b12, hb12, hf⟩ := xo_bind hf
  refine itr_rule (P := fun s_ : Int32 × Int32 × CC => xV (wC D P) K mX5_bendsOf (xQ (wC D P) K Z) (g, s_.2.2) 14 [(0, .ref x0), (1, .int x1), (2, .int s_.1), (3, .int s_.2.1)] []) (fun s_ o_ hB_ hc_ he_ => ok_Bc_X5_bendsOf_14 hB_ hc_ (fun e_ h_ => ?_)) 4096 _ hb12
  · have e9_ := he_ _ h_
    rw [e9_]
    refine xr_iload_n (pc := 51) 0 dX5_bendsOf_51 rfl rfl ?_
    rw [kr _ (Option.some.inj hf).symm]
    exact xr_iret (pc := 52) dX5_bendsOf_52 rfl
theorem met_f_c_X5_bendsOf (l : Launch) {D : CD} {P : CP} {g : CG} {x0 : Nat} {x1 : Int32} {τ : CC} {o_ : (Int32 × CC)} (hf : f_c_X5_bendsOf g x0 x1 τ = some o_) : xMet (wC D P) l yX5_bendsOf (ws_ yX5_bendsOf cX5_bendsOf 4 (some .int)) 80 4800 (grc g) (grs g) [.ref x0, .int x1] (g, τ) (some (.int o_.1), (g, o_.2)) := 
  xMet_of (by decide) (Nat.le_of_ble_eq_true rfl) KC_moved RPC_of (fun K _ _ _ => ok_f_c_X5_bendsOf hf (fun _ h => by rw [h]))
theorem hd_f_c_X5_bendsOf : yX5_bendsOf.cls ≠ "java/lang/invoke/MethodHandle" ∧ yX5_bendsOf.cls ≠ "java/lang/invoke/VarHandle" ∧ (parseMethodDescriptor yX5_bendsOf.desc).map (fun d => d.parameters.length) = some 1 := by decide +kernel
theorem call_f_c_X5_bendsOf_X0_280 {D : CD} {P : CP} {K : xK} {M : xM} {Q : State → Prop} {g : CG} {c : CC} {x0 : Nat} {x1 : Int32} {pc : Nat} {loc : List (Nat × Value)} {st : List Value} {r : Int32} {c1 : CC} (hf : f_c_X5_bendsOf g x0 x1 c = some (r, c1)) (hr : gK g x0 = 6) (ho : M.2.2.1 = RX0) (hfr : 81 ≤ M.2.2.2.1) (hlo : 4823 ≤ M.2.2.2.2.1) (hcat : (st.map fun v => v.category).sum ≤ 8) (d : decode M.1 pc = .ok (.invokevirtual 280, 3)) (k : xV (wC D P) K M Q (g, c1) (pc + 3) loc (.int r :: st)) : xV (wC D P) K M Q (g, c) pc loc (.int x1 :: .ref x0 :: st) :=
  yc_callV (As := [.int x1]) (rest := st) (met_f_c_X5_bendsOf K.2.1 hf) (lw_V q1462 q1463 q1464 q185 q1465) ⟨rfl, hd_f_c_X5_bendsOf⟩ ho hfr hlo rfl hr (by decide) (by decide) rfl rfl hcat d k
abbrev mX0_lord : xM := (cX0_lord, 4, RX0, 81, 4860, (some .int), "lord")
def f_c_X0_lord (g : CG) (x0 : Nat) (x1 : Int32) (x2 : Int32) (τ : CC) : Option (Int32 × CC) :=
  if gT g x0 = 1 then
  xbd (f_c_X0_isLord g x0 x1 τ) fun r2 τ2 =>
  if r2 = 0 then
  some (((-1), τ2))
  else
  xbd (f_c_X0_lordOf g x0 x1 τ2) fun r3 τ3 =>
  if x2 = 0 then
  if gT g r3 = 7 then
  some ((cI τ3 701 r3, τ3))
  else none
  else
  if x2 = 1 then
  if gT g r3 = 7 then
  some ((cI τ3 702 r3, τ3))
  else none
  else
  if x2 = 2 then
  if gT g r3 = 7 then
  some ((cI τ3 703 r3, τ3))
  else none
  else
  if x2 = 3 then
  if gT g r3 = 7 then
  some ((cI τ3 704 r3, τ3))
  else none
  else
  if x2 = 4 then
  (gR g 109 x0).bind fun b11 =>
  if gT g b11 = 6 then
  (gR g 604 b11).bind fun b13 =>
  if gT g b13 = 100 then
  if xin x1 (gN g b13) = true then
  some ((cA τ3 b13 x1.toNatClampNeg, τ3))
  else none
  else none
  else none
  else
  if x2 = 5 then
  (gR g 109 x0).bind fun b7 =>
  if gT g b7 = 6 then
  (gR g 605 b7).bind fun b9 =>
  if gT g b9 = 104 then
  if xin x1 (gN g b9) = true then
  if (cA τ3 b9 x1.toNatClampNeg) = 0 then
  some ((0, τ3))
  else
  some ((1, τ3))
  else none
  else none
  else none
  else
  if x2 = 6 then
  (gR g 109 x0).bind fun b4 =>
  if gT g b4 = 6 then
  xbd (f_c_X5_bendsOf g b4 x1 τ3) fun r6 τ6 =>
  some ((r6, τ6))
  else none
  else
  some (((-1), τ3))
  else none
theorem ok_f_c_X0_lord {D : CD} {P : CP} {K : xK} {g : CG} {Z : Option Value × CS} {x0 : Nat} {x1 : Int32} {x2 : Int32} {τ : CC} {o_ : (Int32 × CC)} (hf : f_c_X0_lord g x0 x1 x2 τ = some o_) (kr : ∀ r_ : (Int32 × CC), o_ = r_ → Z = (some (.int r_.1), (g, r_.2))) : xV (wC D P) K mX0_lord (xQ (wC D P) K Z) (g, τ) 0 [(0, .ref x0), (1, .int x1), (2, .int x2)] [] := by
  unfold f_c_X0_lord at hf
  refine xr_aload_n (pc := 0) 0 dX0_lord_0 rfl rfl ?_
  refine xr_iload_n (pc := 1) 1 dX0_lord_1 rfl rfl ?_
  obtain ⟨ht1, hf⟩ := xo_if hf
  obtain ⟨r2, τ2, hτ2, hf⟩ := xo_bd hf
  refine call_f_c_X0_isLord_X0_228 (pc := 2) hτ2 (gKo ht1 (by decide)) rfl (Nat.le_of_ble_eq_true rfl) (Nat.le_of_ble_eq_true rfl) (Nat.le_of_ble_eq_true rfl) dX0_lord_2 ?_
  refine xr_if_ne (pc := 5) 10 dX0_lord_5 (by decide) (fun c_ => ?_) (fun c_ => ?_)
  · have hf := xo_pos c_ hf
    refine xr_iconst (pc := 8) dX0_lord_8 xci_m1 ?_
    rw [kr _ (Option.some.inj hf).symm]
    exact xr_iret (pc := 9) dX0_lord_9 rfl
  · have hf := xo_neg c_ hf
    refine xr_aload_n (pc := 10) 0 dX0_lord_10 rfl rfl ?_
    refine xr_iload_n (pc := 11) 1 dX0_lord_11 rfl rfl ?_
    obtain ⟨r3, τ3, hτ3, hf⟩ := xo_bd hf
    refine call_f_c_X0_lordOf_X0_231 (pc := 12) hτ3 (gKo ht1 (by decide)) rfl (Nat.le_of_ble_eq_true rfl) (Nat.le_of_ble_eq_true rfl) (Nat.le_of_ble_eq_true rfl) dX0_lord_12 ?_
    refine xr_astore_n (pc := 15) (loc' := [(3, .ref r3), (0, .ref x0), (1, .int x1), (2, .int x2)]) dX0_lord_15 rfl (by decide) rfl ?_
    refine xr_iload_n (pc := 16) 3 dX0_lord_16 rfl rfl ?_
    by_cases c0_ : x2 = 0
    · have hf := xo_pos c0_ hf
      refine xr_tsw_in (pc := 17) (v := 0) (off := 43) 60 dX0_lord_17 c0_ (by decide) (by decide +kernel) (by decide) ?_
      refine xr_aload_n (pc := 60) 0 dX0_lord_60 rfl rfl ?_
      obtain ⟨ht18, hf⟩ := xo_if hf
      refine yc_getIN (pc := 61) 7 1 701 (gKo ht18 (by decide)) (by decide) (by decide) (by decide) rfl rfl q873 (ys_eq rfl) rfl dX0_lord_61 ?_
      rw [kr _ (Option.some.inj hf).symm]
      exact xr_iret (pc := 64) dX0_lord_64 rfl
    have hf := xo_neg c0_ hf
    by_cases c1_ : x2 = 1
    · have hf := xo_pos c1_ hf
      refine xr_tsw_in (pc := 17) (v := 1) (off := 48) 65 dX0_lord_17 c1_ (by decide) (by decide +kernel) (by decide) ?_
      refine xr_aload_n (pc := 65) 0 dX0_lord_65 rfl rfl ?_
      obtain ⟨ht17, hf⟩ := xo_if hf
      refine yc_getIN (pc := 66) 7 2 702 (gKo ht17 (by decide)) (by decide) (by decide) (by decide) rfl rfl q876 (ys_eq rfl) rfl dX0_lord_66 ?_
      rw [kr _ (Option.some.inj hf).symm]
      exact xr_iret (pc := 69) dX0_lord_69 rfl
    have hf := xo_neg c1_ hf
    by_cases c2_ : x2 = 2
    · have hf := xo_pos c2_ hf
      refine xr_tsw_in (pc := 17) (v := 2) (off := 53) 70 dX0_lord_17 c2_ (by decide) (by decide +kernel) (by decide) ?_
      refine xr_aload_n (pc := 70) 0 dX0_lord_70 rfl rfl ?_
      obtain ⟨ht16, hf⟩ := xo_if hf
      refine yc_getIN (pc := 71) 7 3 703 (gKo ht16 (by decide)) (by decide) (by decide) (by decide) rfl rfl q879 (ys_eq rfl) rfl dX0_lord_71 ?_
      rw [kr _ (Option.some.inj hf).symm]
      exact xr_iret (pc := 74) dX0_lord_74 rfl
    have hf := xo_neg c2_ hf
    by_cases c3_ : x2 = 3
    · have hf := xo_pos c3_ hf
      refine xr_tsw_in (pc := 17) (v := 3) (off := 58) 75 dX0_lord_17 c3_ (by decide) (by decide +kernel) (by decide) ?_
      refine xr_aload_n (pc := 75) 0 dX0_lord_75 rfl rfl ?_
      obtain ⟨ht15, hf⟩ := xo_if hf
      refine yc_getIN (pc := 76) 7 4 704 (gKo ht15 (by decide)) (by decide) (by decide) (by decide) rfl rfl q882 (ys_eq rfl) rfl dX0_lord_76 ?_
      rw [kr _ (Option.some.inj hf).symm]
      exact xr_iret (pc := 79) dX0_lord_79 rfl
    have hf := xo_neg c3_ hf
    by_cases c4_ : x2 = 4
    · have hf := xo_pos c4_ hf
      refine xr_tsw_in (pc := 17) (v := 4) (off := 63) 80 dX0_lord_17 c4_ (by decide) (by decide +kernel) (by decide) ?_
      refine xr_aload_n (pc := 80) 1 dX0_lord_80 rfl rfl ?_
      obtain ⟨b11, hb11, hf⟩ := xo_bind hf
      refine yc_getFs (pc := 81) 1 9 109 (gKo ht1 (by decide)) (by decide) (by decide) (by decide) rfl rfl hb11 q495 (ys_eq rfl) rfl dX0_lord_81 ?_
      obtain ⟨ht12, hf⟩ := xo_if hf
      obtain ⟨b13, hb13, hf⟩ := xo_bind hf
      refine yc_getFsN (pc := 84) 6 4 604 (gKo ht12 (by decide)) (by decide) (by decide) (by decide) rfl rfl hb13 q443 (ys_eq rfl) rfl dX0_lord_84 ?_
      refine xr_iload_n (pc := 87) 2 dX0_lord_87 rfl rfl ?_
      obtain ⟨ht14, hf⟩ := xo_if hf
      obtain ⟨hi_, hf⟩ := xo_if hf
      refine yc_iald (pc := 88) (gKo ht14 (by decide)) hi_ dX0_lord_88 ?_
      rw [kr _ (Option.some.inj hf).symm]
      exact xr_iret (pc := 89) dX0_lord_89 rfl
    have hf := xo_neg c4_ hf
    by_cases c5_ : x2 = 5
    · have hf := xo_pos c5_ hf
      refine xr_tsw_in (pc := 17) (v := 5) (off := 73) 90 dX0_lord_17 c5_ (by decide) (by decide +kernel) (by decide) ?_
      refine xr_aload_n (pc := 90) 1 dX0_lord_90 rfl rfl ?_
      obtain ⟨b7, hb7, hf⟩ := xo_bind hf
      refine yc_getFs (pc := 91) 1 9 109 (gKo ht1 (by decide)) (by decide) (by decide) (by decide) rfl rfl hb7 q495 (ys_eq rfl) rfl dX0_lord_91 ?_
      obtain ⟨ht8, hf⟩ := xo_if hf
      obtain ⟨b9, hb9, hf⟩ := xo_bind hf
      refine yc_getFsN (pc := 94) 6 5 605 (gKo ht8 (by decide)) (by decide) (by decide) (by decide) rfl rfl hb9 q445 (ys_eq rfl) rfl dX0_lord_94 ?_
      refine xr_iload_n (pc := 97) 2 dX0_lord_97 rfl rfl ?_
      obtain ⟨ht10, hf⟩ := xo_if hf
      obtain ⟨hi_, hf⟩ := xo_if hf
      refine yc_zald (pc := 98) (gKo ht10 (by decide)) hi_ dX0_lord_98 ?_
      refine xr_if_eq (pc := 99) 106 dX0_lord_99 (by decide) (fun c_ => ?_) (fun c_ => ?_)
      · have hf := xo_pos c_ hf
        refine xr_iconst (pc := 106) dX0_lord_106 xci_0 ?_
        rw [kr _ (Option.some.inj hf).symm]
        exact xr_iret (pc := 107) dX0_lord_107 rfl
      · have hf := xo_neg c_ hf
        refine xr_iconst (pc := 102) dX0_lord_102 xci_1 ?_
        refine xr_goto (pc := 103) 107 dX0_lord_103 (by decide) ?_
        rw [kr _ (Option.some.inj hf).symm]
        exact xr_iret (pc := 107) dX0_lord_107 rfl
    have hf := xo_neg c5_ hf
    by_cases c6_ : x2 = 6
    · have hf := xo_pos c6_ hf
      refine xr_tsw_in (pc := 17) (v := 6) (off := 91) 108 dX0_lord_17 c6_ (by decide) (by decide +kernel) (by decide) ?_
      refine xr_aload_n (pc := 108) 1 dX0_lord_108 rfl rfl ?_
      obtain ⟨b4, hb4, hf⟩ := xo_bind hf
      refine yc_getFs (pc := 109) 1 9 109 (gKo ht1 (by decide)) (by decide) (by decide) (by decide) rfl rfl hb4 q495 (ys_eq rfl) rfl dX0_lord_109 ?_
      refine xr_iload_n (pc := 112) 2 dX0_lord_112 rfl rfl ?_
      obtain ⟨ht5, hf⟩ := xo_if hf
      obtain ⟨r6, τ6, hτ6, hf⟩ := xo_bd hf
      refine call_f_c_X5_bendsOf_X0_280 (pc := 113) hτ6 (gKo ht5 (by decide)) rfl (Nat.le_of_ble_eq_true rfl) (Nat.le_of_ble_eq_true rfl) (Nat.le_of_ble_eq_true rfl) dX0_lord_113 ?_
      rw [kr _ (Option.some.inj hf).symm]
      exact xr_iret (pc := 116) dX0_lord_116 rfl
    have hf := xo_neg c6_ hf
    refine xr_tsw_out (pc := 17) 117 dX0_lord_17 (xsw_out 0 6 [0, 1, 2, 3, 4, 5, 6] (by decide +kernel) (List.forall_mem_cons.mpr ⟨c0_, List.forall_mem_cons.mpr ⟨c1_, List.forall_mem_cons.mpr ⟨c2_, List.forall_mem_cons.mpr ⟨c3_, List.forall_mem_cons.mpr ⟨c4_, List.forall_mem_cons.mpr ⟨c5_, List.forall_mem_cons.mpr ⟨c6_, List.forall_mem_nil _⟩⟩⟩⟩⟩⟩⟩)) (by decide) ?_
    refine xr_iconst (pc := 117) dX0_lord_117 xci_m1 ?_
    rw [kr _ (Option.some.inj hf).symm]
    exact xr_iret (pc := 118) dX0_lord_118 rfl
theorem met_f_c_X0_lord (l : Launch) {D : CD} {P : CP} {g : CG} {x0 : Nat} {x1 : Int32} {x2 : Int32} {τ : CC} {o_ : (Int32 × CC)} (hf : f_c_X0_lord g x0 x1 x2 τ = some o_) : xMet (wC D P) l yX0_lord (ws_ yX0_lord cX0_lord 4 (some .int)) 81 4860 (grc g) (grs g) [.ref x0, .int x1, .int x2] (g, τ) (some (.int o_.1), (g, o_.2)) := 
  xMet_of (by decide) (Nat.le_of_ble_eq_true rfl) KC_moved RPC_of (fun K _ _ _ => ok_f_c_X0_lord hf (fun _ h => by rw [h]))
abbrev mX0_kept : xM := (cX0_kept, 3, RX0, 1, 60, (some .int), "kept")
def Jc_X0_kept_40 (g : CG) (τ : CC) : Option (Int32 × CC) :=
  some (((-1), τ))
theorem ok_Jc_X0_kept_40 {D : CD} {P : CP} {K : xK} {g : CG} {Z : Option Value × CS} {τ : CC} {o_ : (Int32 × CC)} (hf : Jc_X0_kept_40 g τ = some o_) (kr : ∀ r_ : (Int32 × CC), o_ = r_ → Z = (some (.int r_.1), (g, r_.2))) : xV (wC D P) K mX0_kept (xQ (wC D P) K Z) (g, τ) 40 [] [] := by
  unfold Jc_X0_kept_40 at hf
  refine xr_iconst (pc := 40) dX0_kept_40 xci_m1 ?_
  rw [kr _ (Option.some.inj hf).symm]
  exact xr_iret (pc := 41) dX0_kept_41 rfl
def f_c_X0_kept (g : CG) (x0 : Nat) (x1 : Int32) (x2 : Int32) (τ : CC) : Option (Int32 × CC) :=
  if gT g x0 = 1 then
  (gR g 109 x0).bind fun b2 =>
  if gT g b2 = 6 then
  xbd (f_c_X0_is g x1 0 ((cI τ 602 b2) - 1) τ) fun r4 τ4 =>
  if r4 = 0 then
  Jc_X0_kept_40 g τ4
  else
  xbd (f_c_X0_is g x2 0 2 τ4) fun r5 τ5 =>
  if r5 = 0 then
  Jc_X0_kept_40 g τ5
  else
  (gR g 608 b2).bind fun b6 =>
  if gT g b6 = 107 then
  if xin x1 (gN g b6) = true then
  (cP τ5 b6 x1.toNatClampNeg).bind fun b8 =>
  if gT g b8 = 100 then
  if xin x2 (gN g b8) = true then
  some ((cA τ5 b8 x2.toNatClampNeg, τ5))
  else none
  else none
  else none
  else none
  else none
  else none
theorem ok_f_c_X0_kept {D : CD} {P : CP} {K : xK} {g : CG} {Z : Option Value × CS} {x0 : Nat} {x1 : Int32} {x2 : Int32} {τ : CC} {o_ : (Int32 × CC)} (hf : f_c_X0_kept g x0 x1 x2 τ = some o_) (kr : ∀ r_ : (Int32 × CC), o_ = r_ → Z = (some (.int r_.1), (g, r_.2))) : xV (wC D P) K mX0_kept (xQ (wC D P) K Z) (g, τ) 0 [(0, .ref x0), (1, .int x1), (2, .int x2)] [] := by
  unfold f_c_X0_kept at hf
  refine xr_iload_n (pc := 0) 1 dX0_kept_0 rfl rfl ?_
  refine xr_iconst (pc := 1) dX0_kept_1 xci_0 ?_
  refine xr_aload_n (pc := 2) 0 dX0_kept_2 rfl rfl ?_
  obtain ⟨ht1, hf⟩ := xo_if hf
  obtain ⟨b2, hb2, hf⟩ := xo_bind hf
  refine yc_getFs (pc := 3) 1 9 109 (gKo ht1 (by decide)) (by decide) (by decide) (by decide) rfl rfl hb2 q495 (ys_eq rfl) rfl dX0_kept_3 ?_
  obtain ⟨ht3, hf⟩ := xo_if hf
  refine yc_getIN (pc := 6) 6 2 602 (gKo ht3 (by decide)) (by decide) (by decide) (by decide) rfl rfl q439 (ys_eq rfl) rfl dX0_kept_6 ?_
  refine xr_iconst (pc := 9) dX0_kept_9 xci_1 ?_
  refine xr_isub (pc := 10) dX0_kept_10 ?_
  obtain ⟨r4, τ4, hτ4, hf⟩ := xo_bd hf
  refine call_f_c_X0_is_X0_176 (pc := 11) hτ4 rfl (Nat.le_of_ble_eq_true rfl) (Nat.le_of_ble_eq_true rfl) (Nat.le_of_ble_eq_true rfl) dX0_kept_11 ?_
  refine xr_if_eq (pc := 14) 40 dX0_kept_14 (by decide) (fun c_ => ?_) (fun c_ => ?_)
  · have hf := xo_pos c_ hf
    refine xV_sub [] rfl ?_
    exact ok_Jc_X0_kept_40 hf kr
  · have hf := xo_neg c_ hf
    refine xr_iload_n (pc := 17) 2 dX0_kept_17 rfl rfl ?_
    refine xr_iconst (pc := 18) dX0_kept_18 xci_0 ?_
    refine xr_iconst (pc := 19) dX0_kept_19 xci_2 ?_
    obtain ⟨r5, τ5, hτ5, hf⟩ := xo_bd hf
    refine call_f_c_X0_is_X0_176 (pc := 20) hτ5 rfl (Nat.le_of_ble_eq_true rfl) (Nat.le_of_ble_eq_true rfl) (Nat.le_of_ble_eq_true rfl) dX0_kept_20 ?_
    refine xr_if_eq (pc := 23) 40 dX0_kept_23 (by decide) (fun c_ => ?_) (fun c_ => ?_)
    · have hf := xo_pos c_ hf
      refine xV_sub [] rfl ?_
      exact ok_Jc_X0_kept_40 hf kr
    · have hf := xo_neg c_ hf
      refine xr_aload_n (pc := 26) 0 dX0_kept_26 rfl rfl ?_
      refine yc_getFs (pc := 27) 1 9 109 (gKo ht1 (by decide)) (by decide) (by decide) (by decide) rfl rfl hb2 q495 (ys_eq rfl) rfl dX0_kept_27 ?_
      obtain ⟨b6, hb6, hf⟩ := xo_bind hf
      refine yc_getFsN (pc := 30) 6 8 608 (gKo ht3 (by decide)) (by decide) (by decide) (by decide) rfl rfl hb6 q451 (ys_eq rfl) rfl dX0_kept_30 ?_
      refine xr_iload_n (pc := 33) 1 dX0_kept_33 rfl rfl ?_
      obtain ⟨ht7, hf⟩ := xo_if hf
      obtain ⟨hi_, hf⟩ := xo_if hf
      obtain ⟨b8, hb8, hf⟩ := xo_bind hf
      refine yc_aalds (pc := 34) 107 (gKo ht7 (by decide)) (by decide) (by decide) rfl rfl hi_ hb8 dX0_kept_34 ?_
      refine xr_iload_n (pc := 35) 2 dX0_kept_35 rfl rfl ?_
      obtain ⟨ht9, hf⟩ := xo_if hf
      obtain ⟨hi_, hf⟩ := xo_if hf
      refine yc_iald (pc := 36) (gKo ht9 (by decide)) hi_ dX0_kept_36 ?_
      refine xr_goto (pc := 37) 41 dX0_kept_37 (by decide) ?_
      rw [kr _ (Option.some.inj hf).symm]
      exact xr_iret (pc := 41) dX0_kept_41 rfl
theorem met_f_c_X0_kept (l : Launch) {D : CD} {P : CP} {g : CG} {x0 : Nat} {x1 : Int32} {x2 : Int32} {τ : CC} {o_ : (Int32 × CC)} (hf : f_c_X0_kept g x0 x1 x2 τ = some o_) : xMet (wC D P) l yX0_kept (ws_ yX0_kept cX0_kept 3 (some .int)) 1 60 (grc g) (grs g) [.ref x0, .int x1, .int x2] (g, τ) (some (.int o_.1), (g, o_.2)) := 
  xMet_of (by decide) (Nat.le_of_ble_eq_true rfl) KC_moved RPC_of (fun K _ _ _ => ok_f_c_X0_kept hf (fun _ h => by rw [h]))
theorem hd_f_c_X0_isValley : yX0_isValley.cls ≠ "java/lang/invoke/MethodHandle" ∧ yX0_isValley.cls ≠ "java/lang/invoke/VarHandle" ∧ (parseMethodDescriptor yX0_isValley.desc).map (fun d => d.parameters.length) = some 0 := by decide +kernel
theorem call_f_c_X0_isValley_X0_285 {D : CD} {P : CP} {K : xK} {M : xM} {Q : State → Prop} {g : CG} {c : CC} {x0 : Nat} {pc : Nat} {loc : List (Nat × Value)} {st : List Value} {r : Int32} {c1 : CC} (hf : f_c_X0_isValley g x0 c = some (r, c1)) (hr : gK g x0 = 1) (ho : M.2.2.1 = RX0) (hfr : 1 ≤ M.2.2.2.1) (hlo : 20 ≤ M.2.2.2.2.1) (hcat : (st.map fun v => v.category).sum ≤ 8) (d : decode M.1 pc = .ok (.invokevirtual 285, 3)) (k : xV (wC D P) K M Q (g, c1) (pc + 3) loc (.int r :: st)) : xV (wC D P) K M Q (g, c) pc loc (.ref x0 :: st) :=
  yc_callV (As := []) (rest := st) (met_f_c_X0_isValley K.2.1 hf) (lw_V q1478 q1480 qs44 q174 q1481) ⟨rfl, hd_f_c_X0_isValley⟩ ho hfr hlo rfl hr (by decide) (by decide) rfl rfl hcat d k
abbrev mX0_isAhead : xM := (cX0_isAhead, 4, RX0, 1, 60, (some .boolean), "isAhead")
def Jc_X0_isAhead_35 (g : CG) (τ : CC) : Option (Int32 × CC) :=
  some ((0, τ))
theorem ok_Jc_X0_isAhead_35 {D : CD} {P : CP} {K : xK} {g : CG} {Z : Option Value × CS} {τ : CC} {o_ : (Int32 × CC)} (hf : Jc_X0_isAhead_35 g τ = some o_) (kr : ∀ r_ : (Int32 × CC), o_ = r_ → Z = (some (.int r_.1), (g, r_.2))) : xV (wC D P) K mX0_isAhead (xQ (wC D P) K Z) (g, τ) 35 [] [] := by
  unfold Jc_X0_isAhead_35 at hf
  refine xr_iconst (pc := 35) dX0_isAhead_35 xci_0 ?_
  rw [kr _ (Option.some.inj hf).symm]
  exact xr_zret (pc := 36) dX0_isAhead_36 rfl xz_0
def f_c_X0_isAhead (g : CG) (x0 : Nat) (x1 : Int32) (x2 : Int32) (x3 : Int32) (τ : CC) : Option (Int32 × CC) :=
  if gT g x0 = 1 then
  xbd (f_c_X0_isValley g x0 τ) fun r2 τ2 =>
  if r2 = 0 then
  Jc_X0_isAhead_35 g τ2
  else
  xbd (f_c_X0_is g x1 x2 x3 τ2) fun r3 τ3 =>
  if r3 = 0 then
  Jc_X0_isAhead_35 g τ3
  else
  (gR g 109 x0).bind fun b4 =>
  if gT g b4 = 6 then
  if (999 : Int32) < ((cI τ3 600 b4) + x1) then
  Jc_X0_isAhead_35 g τ3
  else
  some ((1, τ3))
  else none
  else none
theorem ok_f_c_X0_isAhead {D : CD} {P : CP} {K : xK} {g : CG} {Z : Option Value × CS} {x0 : Nat} {x1 : Int32} {x2 : Int32} {x3 : Int32} {τ : CC} {o_ : (Int32 × CC)} (hf : f_c_X0_isAhead g x0 x1 x2 x3 τ = some o_) (kr : ∀ r_ : (Int32 × CC), o_ = r_ → Z = (some (.int r_.1), (g, r_.2))) : xV (wC D P) K mX0_isAhead (xQ (wC D P) K Z) (g, τ) 0 [(0, .ref x0), (1, .int x1), (2, .int x2), (3, .int x3)] [] := by
  unfold f_c_X0_isAhead at hf
  refine xr_aload_n (pc := 0) 0 dX0_isAhead_0 rfl rfl ?_
  obtain ⟨ht1, hf⟩ := xo_if hf
  obtain ⟨r2, τ2, hτ2, hf⟩ := xo_bd hf
  refine call_f_c_X0_isValley_X0_285 (pc := 1) hτ2 (gKo ht1 (by decide)) rfl (Nat.le_of_ble_eq_true rfl) (Nat.le_of_ble_eq_true rfl) (Nat.le_of_ble_eq_true rfl) dX0_isAhead_1 ?_
  refine xr_if_eq (pc := 4) 35 dX0_isAhead_4 (by decide) (fun c_ => ?_) (fun c_ => ?_)
  · have hf := xo_pos c_ hf
    refine xV_sub [] rfl ?_
    exact ok_Jc_X0_isAhead_35 hf kr
  · have hf := xo_neg c_ hf
    refine xr_iload_n (pc := 7) 1 dX0_isAhead_7 rfl rfl ?_
    refine xr_iload_n (pc := 8) 2 dX0_isAhead_8 rfl rfl ?_
    refine xr_iload_n (pc := 9) 3 dX0_isAhead_9 rfl rfl ?_
    obtain ⟨r3, τ3, hτ3, hf⟩ := xo_bd hf
    refine call_f_c_X0_is_X0_176 (pc := 10) hτ3 rfl (Nat.le_of_ble_eq_true rfl) (Nat.le_of_ble_eq_true rfl) (Nat.le_of_ble_eq_true rfl) dX0_isAhead_10 ?_
    refine xr_if_eq (pc := 13) 35 dX0_isAhead_13 (by decide) (fun c_ => ?_) (fun c_ => ?_)
    · have hf := xo_pos c_ hf
      refine xV_sub [] rfl ?_
      exact ok_Jc_X0_isAhead_35 hf kr
    · have hf := xo_neg c_ hf
      refine xr_aload_n (pc := 16) 0 dX0_isAhead_16 rfl rfl ?_
      obtain ⟨b4, hb4, hf⟩ := xo_bind hf
      refine yc_getFs (pc := 17) 1 9 109 (gKo ht1 (by decide)) (by decide) (by decide) (by decide) rfl rfl hb4 q495 (ys_eq rfl) rfl dX0_isAhead_17 ?_
      obtain ⟨ht5, hf⟩ := xo_if hf
      refine yc_getIN (pc := 20) 6 0 600 (gKo ht5 (by decide)) (by decide) (by decide) (by decide) rfl rfl q435 (ys_eq rfl) rfl dX0_isAhead_20 ?_
      refine xr_iload_n (pc := 23) 1 dX0_isAhead_23 rfl rfl ?_
      refine xr_iadd (pc := 24) dX0_isAhead_24 ?_
      refine xr_sipush (pc := 25) dX0_isAhead_25 xcs_999 ?_
      refine xr_icmp_gt (pc := 28) 35 dX0_isAhead_28 (by decide) (fun c_ => ?_) (fun c_ => ?_)
      · have hf := xo_pos c_ hf
        refine xV_sub [] rfl ?_
        exact ok_Jc_X0_isAhead_35 hf kr
      · have hf := xo_neg c_ hf
        refine xr_iconst (pc := 31) dX0_isAhead_31 xci_1 ?_
        refine xr_goto (pc := 32) 36 dX0_isAhead_32 (by decide) ?_
        rw [kr _ (Option.some.inj hf).symm]
        exact xr_zret (pc := 36) dX0_isAhead_36 rfl xz_1
theorem met_f_c_X0_isAhead (l : Launch) {D : CD} {P : CP} {g : CG} {x0 : Nat} {x1 : Int32} {x2 : Int32} {x3 : Int32} {τ : CC} {o_ : (Int32 × CC)} (hf : f_c_X0_isAhead g x0 x1 x2 x3 τ = some o_) : xMet (wC D P) l yX0_isAhead (ws_ yX0_isAhead cX0_isAhead 4 (some .boolean)) 1 60 (grc g) (grs g) [.ref x0, .int x1, .int x2, .int x3] (g, τ) (some (.int o_.1), (g, o_.2)) := 
  xMet_of (by decide) (Nat.le_of_ble_eq_true rfl) KC_moved RPC_of (fun K _ _ _ => ok_f_c_X0_isAhead hf (fun _ h => by rw [h]))
