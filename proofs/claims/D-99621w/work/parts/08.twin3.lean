set_option maxRecDepth 100000
abbrev mX6_codesTell : xM := (cX6_codesTell, 4, RX6, 4, 240, (some .long), "codesTell")
def Jt_codesTell_136 (x1 : Int32) (x2 : Int32) (τ : TS) : Option ((Int32 × TS) ⊕ ((TS))) :=
  some (.inl (x2 + 1, τ))
theorem ok_Jt_codesTell_136 {D : TD} {m : Nat} {K : xK} {Z : Option Value × TS} {x1 : Int32} {x2 : Int32} {τ : TS} {o_ : ((Int32 × TS) ⊕ ((TS)))} (hf : Jt_codesTell_136 x1 x2 τ = some o_) (kc : ∀ s_ : Int32 × TS, o_ = .inl s_ → xV (wT D m) K mX6_codesTell (xQ (wT D m) K Z) s_.2 19 [(0, .ref m), (1, .int x1), (2, .int s_.1)] []) (ke0 : ∀ e_ : TS, o_ = .inr e_ → xV (wT D m) K mX6_codesTell (xQ (wT D m) K Z) e_ 142 [(0, .ref m)] []) : xV (wT D m) K mX6_codesTell (xQ (wT D m) K Z) τ 136 [(0, .ref m), (1, .int x1), (2, .int x2)] [] := by
  unfold Jt_codesTell_136 at hf
  refine xr_iinc (pc := 136) (loc' := [(2, .int (x2 + 1)), (0, .ref m), (1, .int x1)]) 2 dX6_codesTell_136 rfl xci_1 (by decide) rfl ?_
  refine xr_goto (pc := 139) 19 dX6_codesTell_139 (by decide) ?_
  refine xV_sub [1, 2, 0] rfl ?_
  exact kc _ (Option.some.inj hf).symm
def Bt_codesTell_19 (x1 : Int32) (x2 : Int32) (τ : TS) : Option ((Int32 × TS) ⊕ ((TS))) :=
  if xin (2 + x1) 4 = true then
  if (tA τ 56 (2 + x1).toNatClampNeg) ≤ x2 then
  some (.inr τ)
  else
  if xin (1600 + x2) 3200 = true then
  if (tA τ 57 (1600 + x2).toNatClampNeg) < 1000 then
  if (tA τ 57 (1600 + x2).toNatClampNeg) < 40 then
  if (tA τ 57 (1600 + x2).toNatClampNeg) = 13 then
  (f_t_qPuts 1 τ).bind fun τ1 =>
  Jt_codesTell_136 x1 x2 τ1
  else
  if (tA τ 57 (1600 + x2).toNatClampNeg) = 12 then
  if xin ((tI τ 127) - 1) 1700 = true then
  if xin ((tI τ 127) - 1) 1700 = true then
  Jt_codesTell_136 x1 x2 (sM τ 126 ((tI τ 127) - 1).toNatClampNeg (1 - (tM τ 126 ((tI τ 127) - 1).toNatClampNeg)))
  else none
  else none
  else
  (f_t_qJoins (tA τ 57 (1600 + x2).toNatClampNeg) τ).bind fun τ2 =>
  Jt_codesTell_136 x1 x2 τ2
  else
  xbd (f_t_qPartOf ((tA τ 57 (1600 + x2).toNatClampNeg) - 40) 0 τ) fun r3 τ3 =>
  (f_t_qPuts r3 τ3).bind fun τ4 =>
  Jt_codesTell_136 x1 x2 τ4
  else
  (f_t_qPuts (((tA τ 57 (1600 + x2).toNatClampNeg) - 1000).toInt64) τ).bind fun τ5 =>
  Jt_codesTell_136 x1 x2 τ5
  else none
  else none
theorem ok_Bt_codesTell_19 {D : TD} {m : Nat} {K : xK} {Z : Option Value × TS} {x1 : Int32} {x2 : Int32} {τ : TS} {o_ : ((Int32 × TS) ⊕ ((TS)))} (hf : Bt_codesTell_19 x1 x2 τ = some o_) (kc : ∀ s_ : Int32 × TS, o_ = .inl s_ → xV (wT D m) K mX6_codesTell (xQ (wT D m) K Z) s_.2 19 [(0, .ref m), (1, .int x1), (2, .int s_.1)] []) (ke0 : ∀ e_ : TS, o_ = .inr e_ → xV (wT D m) K mX6_codesTell (xQ (wT D m) K Z) e_ 142 [(0, .ref m)] []) : xV (wT D m) K mX6_codesTell (xQ (wT D m) K Z) τ 19 [(0, .ref m), (1, .int x1), (2, .int x2)] [] := by
  unfold Bt_codesTell_19 at hf
  refine xr_iload_n (pc := 19) 2 dX6_codesTell_19 rfl rfl ?_
  refine xr_aload_n (pc := 20) 0 dX6_codesTell_20 rfl rfl ?_
  refine xt_getA (pc := 21) 56 (by decide) q1802 rfl rfl rfl dX6_codesTell_21 ?_
  refine xr_iconst (pc := 24) dX6_codesTell_24 xci_2 ?_
  refine xr_iload_n (pc := 25) 1 dX6_codesTell_25 rfl rfl ?_
  refine xr_iadd (pc := 26) dX6_codesTell_26 ?_
  obtain ⟨hi_, hf⟩ := xo_if hf
  refine xt_iald (pc := 27) 56 rfl rfl hi_ dX6_codesTell_27 ?_
  refine xr_icmp_ge (pc := 28) 142 dX6_codesTell_28 (by decide) (fun c_ => ?_) (fun c_ => ?_)
  · have hf := xo_pos c_ hf
    refine xV_sub [0] rfl ?_
    exact ke0 _ (Option.some.inj hf).symm
  · have hf := xo_neg c_ hf
    refine xr_aload_n (pc := 31) 0 dX6_codesTell_31 rfl rfl ?_
    refine xt_getA (pc := 32) 57 (by decide) q1803 rfl rfl rfl dX6_codesTell_32 ?_
    refine xr_sipush (pc := 35) dX6_codesTell_35 xcs_1600 ?_
    refine xr_iload_n (pc := 38) 2 dX6_codesTell_38 rfl rfl ?_
    refine xr_iadd (pc := 39) dX6_codesTell_39 ?_
    obtain ⟨hi_, hf⟩ := xo_if hf
    refine xt_iald (pc := 40) 57 rfl rfl hi_ dX6_codesTell_40 ?_
    refine xr_istore_n (pc := 41) (loc' := [(3, .int (tA τ 57 (1600 + x2).toNatClampNeg)), (0, .ref m), (1, .int x1), (2, .int x2)]) dX6_codesTell_41 rfl (by decide) rfl ?_
    refine xr_iload_n (pc := 42) 0 dX6_codesTell_42 rfl rfl ?_
    refine xr_sipush (pc := 43) dX6_codesTell_43 xcs_1000 ?_
    refine xr_icmp_lt (pc := 46) 62 dX6_codesTell_46 (by decide) (fun c_ => ?_) (fun c_ => ?_)
    · have hf := xo_pos c_ hf
      refine xr_iload_n (pc := 62) 0 dX6_codesTell_62 rfl rfl ?_
      refine xr_bipush (pc := 63) dX6_codesTell_63 xcb_40 ?_
      refine xr_icmp_lt (pc := 65) 84 dX6_codesTell_65 (by decide) (fun c_ => ?_) (fun c_ => ?_)
      · have hf := xo_pos c_ hf
        refine xr_iload_n (pc := 84) 0 dX6_codesTell_84 rfl rfl ?_
        refine xr_bipush (pc := 85) dX6_codesTell_85 xcb_13 ?_
        refine xr_icmp_ne (pc := 87) 98 dX6_codesTell_87 (by decide) (fun c_ => ?_) (fun c_ => ?_)
        · have hf := xo_pos c_ hf
          refine xr_aload_n (pc := 90) 1 dX6_codesTell_90 rfl rfl ?_
          refine xr_lconst (pc := 91) dX6_codesTell_91 (by decide : _ = (1 : Int64)) ?_
          obtain ⟨τ1, hτ1, hf⟩ := xo_bind hf
          refine call_f_t_qPuts (pc := 92) hτ1 rfl (Nat.le_of_ble_eq_true rfl) (Nat.le_of_ble_eq_true rfl) (Nat.le_of_ble_eq_true rfl) dX6_codesTell_92 ?_
          refine xr_goto (pc := 95) 136 dX6_codesTell_95 (by decide) ?_
          refine xV_sub [1, 2, 3] rfl ?_
          exact ok_Jt_codesTell_136 hf kc ke0
        · have hf := xo_neg c_ hf
          refine xr_iload_n (pc := 98) 0 dX6_codesTell_98 rfl rfl ?_
          refine xr_bipush (pc := 99) dX6_codesTell_99 xcb_12 ?_
          refine xr_icmp_ne (pc := 101) 131 dX6_codesTell_101 (by decide) (fun c_ => ?_) (fun c_ => ?_)
          · have hf := xo_pos c_ hf
            refine xr_aload_n (pc := 104) 1 dX6_codesTell_104 rfl rfl ?_
            refine xt_getA (pc := 105) 126 (by decide) q1872 rfl rfl rfl dX6_codesTell_105 ?_
            refine xr_aload_n (pc := 108) 1 dX6_codesTell_108 rfl rfl ?_
            refine xt_getI (pc := 109) 127 (by decide) q1873 rfl rfl rfl dX6_codesTell_109 ?_
            refine xr_iconst (pc := 112) dX6_codesTell_112 xci_1 ?_
            refine xr_isub (pc := 113) dX6_codesTell_113 ?_
            refine xr_lconst (pc := 114) dX6_codesTell_114 (by decide : _ = (1 : Int64)) ?_
            refine xr_aload_n (pc := 115) 1 dX6_codesTell_115 rfl rfl ?_
            refine xt_getA (pc := 116) 126 (by decide) q1872 rfl rfl rfl dX6_codesTell_116 ?_
            refine xr_aload_n (pc := 119) 1 dX6_codesTell_119 rfl rfl ?_
            refine xt_getI (pc := 120) 127 (by decide) q1873 rfl rfl rfl dX6_codesTell_120 ?_
            refine xr_iconst (pc := 123) dX6_codesTell_123 xci_1 ?_
            refine xr_isub (pc := 124) dX6_codesTell_124 ?_
            obtain ⟨hi_, hf⟩ := xo_if hf
            refine xt_lald (pc := 125) 126 rfl rfl hi_ dX6_codesTell_125 ?_
            refine xr_lsub (pc := 126) dX6_codesTell_126 ?_
            obtain ⟨hi_, hf⟩ := xo_if hf
            refine xt_last (pc := 127) 126 rfl rfl hi_ dX6_codesTell_127 ?_
            refine xr_goto (pc := 128) 136 dX6_codesTell_128 (by decide) ?_
            refine xV_sub [1, 2, 3] rfl ?_
            exact ok_Jt_codesTell_136 hf kc ke0
          · have hf := xo_neg c_ hf
            refine xr_aload_n (pc := 131) 1 dX6_codesTell_131 rfl rfl ?_
            refine xr_iload_n (pc := 132) 0 dX6_codesTell_132 rfl rfl ?_
            obtain ⟨τ2, hτ2, hf⟩ := xo_bind hf
            refine call_f_t_qJoins (pc := 133) hτ2 rfl (Nat.le_of_ble_eq_true rfl) (Nat.le_of_ble_eq_true rfl) (Nat.le_of_ble_eq_true rfl) dX6_codesTell_133 ?_
            refine xV_sub [1, 2, 3] rfl ?_
            exact ok_Jt_codesTell_136 hf kc ke0
      · have hf := xo_neg c_ hf
        refine xr_aload_n (pc := 68) 1 dX6_codesTell_68 rfl rfl ?_
        refine xr_aload_n (pc := 69) 1 dX6_codesTell_69 rfl rfl ?_
        refine xr_iload_n (pc := 70) 0 dX6_codesTell_70 rfl rfl ?_
        refine xr_bipush (pc := 71) dX6_codesTell_71 xcb_40 ?_
        refine xr_isub (pc := 73) dX6_codesTell_73 ?_
        refine xr_iconst (pc := 74) dX6_codesTell_74 xci_0 ?_
        obtain ⟨r3, τ3, hτ3, hf⟩ := xo_bd hf
        refine call_f_t_qPartOf (pc := 75) hτ3 rfl (Nat.le_of_ble_eq_true rfl) (Nat.le_of_ble_eq_true rfl) (Nat.le_of_ble_eq_true rfl) dX6_codesTell_75 ?_
        obtain ⟨τ4, hτ4, hf⟩ := xo_bind hf
        refine call_f_t_qPuts (pc := 78) hτ4 rfl (Nat.le_of_ble_eq_true rfl) (Nat.le_of_ble_eq_true rfl) (Nat.le_of_ble_eq_true rfl) dX6_codesTell_78 ?_
        refine xr_goto (pc := 81) 136 dX6_codesTell_81 (by decide) ?_
        refine xV_sub [1, 2, 3] rfl ?_
        exact ok_Jt_codesTell_136 hf kc ke0
    · have hf := xo_neg c_ hf
      refine xr_aload_n (pc := 49) 1 dX6_codesTell_49 rfl rfl ?_
      refine xr_iload_n (pc := 50) 0 dX6_codesTell_50 rfl rfl ?_
      refine xr_sipush (pc := 51) dX6_codesTell_51 xcs_1000 ?_
      refine xr_isub (pc := 54) dX6_codesTell_54 ?_
      refine xr_i2l (pc := 55) dX6_codesTell_55 ?_
      obtain ⟨τ5, hτ5, hf⟩ := xo_bind hf
      refine call_f_t_qPuts (pc := 56) hτ5 rfl (Nat.le_of_ble_eq_true rfl) (Nat.le_of_ble_eq_true rfl) (Nat.le_of_ble_eq_true rfl) dX6_codesTell_56 ?_
      refine xr_goto (pc := 59) 136 dX6_codesTell_59 (by decide) ?_
      refine xV_sub [1, 2, 3] rfl ?_
      exact ok_Jt_codesTell_136 hf kc ke0
def f_t_codesTell (x1 : Int32) (τ : TS) : Option (Int64 × TS) :=
  if xin (2 + x1) 4 = true then
  (itr (fun s_ : Int32 × TS => Bt_codesTell_19 x1 s_.1 s_.2) 4096 (tA (sI (sI τ 61 x1) 127 0) 55 (2 + x1).toNatClampNeg, sI (sI τ 61 x1) 127 0)).bind fun b6 =>
  if xin 0 1700 = true then
  some ((tM b6 126 (0 : Int32).toNatClampNeg, b6))
  else none
  else none
theorem ok_f_t_codesTell {D : TD} {m : Nat} {K : xK} {Z : Option Value × TS} {x1 : Int32} {τ : TS} {o_ : (Int64 × TS)} (hf : f_t_codesTell x1 τ = some o_) (kr : ∀ r_ : (Int64 × TS), o_ = r_ → Z = (some (.long r_.1), r_.2)) : xV (wT D m) K mX6_codesTell (xQ (wT D m) K Z) τ 0 [(0, .ref m), (1, .int x1)] [] := by
  unfold f_t_codesTell at hf
  refine xr_aload_n (pc := 0) 0 dX6_codesTell_0 rfl rfl ?_
  refine xr_iload_n (pc := 1) 1 dX6_codesTell_1 rfl rfl ?_
  refine xt_putI (pc := 2) 61 (by decide) q1807 rfl rfl rfl (by decide +kernel) rfl dX6_codesTell_2 ?_
  refine xr_aload_n (pc := 5) 0 dX6_codesTell_5 rfl rfl ?_
  refine xr_iconst (pc := 6) dX6_codesTell_6 xci_0 ?_
  refine xt_putI (pc := 7) 127 (by decide) q1873 rfl rfl rfl (by decide +kernel) rfl dX6_codesTell_7 ?_
  refine xr_aload_n (pc := 10) 0 dX6_codesTell_10 rfl rfl ?_
  refine xt_getA (pc := 11) 55 (by decide) q1801 rfl rfl rfl dX6_codesTell_11 ?_
  refine xr_iconst (pc := 14) dX6_codesTell_14 xci_2 ?_
  refine xr_iload_n (pc := 15) 1 dX6_codesTell_15 rfl rfl ?_
  refine xr_iadd (pc := 16) dX6_codesTell_16 ?_
  obtain ⟨hi_, hf⟩ := xo_if hf
  refine xt_iald (pc := 17) 55 rfl rfl hi_ dX6_codesTell_17 ?_
  refine xr_istore_n (pc := 18) (loc' := [(2, .int (tA (sI (sI τ 61 x1) 127 0) 55 (2 + x1).toNatClampNeg)), (0, .ref m), (1, .int x1)]) dX6_codesTell_18 rfl (by decide) rfl ?_
  refine xV_sub [1, 2, 0] rfl ?_
  obtain ⟨b6, hb6, hf⟩ := xo_bind hf
  refine itr_rule (P := fun s_ : Int32 × TS => xV (wT D m) K mX6_codesTell (xQ (wT D m) K Z) s_.2 19 [(0, .ref m), (1, .int x1), (2, .int s_.1)] []) (fun s_ o_ hB_ hc_ he_ => ok_Bt_codesTell_19 hB_ hc_ (fun e_ h_ => ?_)) 4096 _ hb6
  · have e9_ := he_ _ h_
    rw [e9_]
    refine xr_aload_n (pc := 142) 0 dX6_codesTell_142 rfl rfl ?_
    refine xt_getA (pc := 143) 126 (by decide) q1872 rfl rfl rfl dX6_codesTell_143 ?_
    refine xr_iconst (pc := 146) dX6_codesTell_146 xci_0 ?_
    obtain ⟨hi_, hf⟩ := xo_if hf
    refine xt_lald (pc := 147) 126 rfl rfl hi_ dX6_codesTell_147 ?_
    rw [kr _ (Option.some.inj hf).symm]
    exact xr_lret (pc := 148) dX6_codesTell_148 rfl
theorem met_f_t_codesTell (l : Launch) {D : TD} {m : Nat} {x1 : Int32} {τ : TS} {o_ : (Int64 × TS)} (hf : f_t_codesTell x1 τ = some o_) : xMet (wT D m) l yX6_codesTell (ws_ yX6_codesTell cX6_codesTell 4 (some .long)) 4 240 0 0 [.ref m, .int x1] τ (some (.long o_.1), o_.2) :=
  xMet_of (by decide) (Nat.le_of_ble_eq_true rfl) KT_moved (fun _ _ => trivial) (fun K _ _ _ => ok_f_t_codesTell hf (fun _ h => by rw [h]))
theorem hd_f_t_codesTell : yX6_codesTell.cls = RX6 ∧ yX6_codesTell.cls ≠ "java/lang/invoke/MethodHandle" ∧ yX6_codesTell.cls ≠ "java/lang/invoke/VarHandle" ∧ (parseMethodDescriptor yX6_codesTell.desc).map (fun d => d.parameters.length) = some 1 := by decide +kernel
theorem call_f_t_codesTell {D : TD} {m : Nat} {K : xK} {M : xM} {Q : State → Prop} {x1 : Int32} {τ : TS} {pc : Nat} {loc : List (Nat × Value)} {st : List Value} {r : Int64} {τ1 : TS} (hf : f_t_codesTell x1 τ = some (r, τ1)) (ho : M.2.2.1 = RX6) (hfr : 5 ≤ M.2.2.2.1) (hlo : 263 ≤ M.2.2.2.2.1) (hcat : (st.map fun v => v.category).sum ≤ 8) (d : decode M.1 pc = .ok (.invokevirtual 531, 3)) (k : xV (wT D m) K M Q τ1 (pc + 3) loc (.long r :: st)) : xV (wT D m) K M Q τ pc loc (.int x1 :: .ref m :: st) :=
  xr_callV (As := [.int x1]) (rest := st) (met_f_t_codesTell K.2.1 hf) (lw_V q2373 q2375 qs115 q186 q2376) hd_f_t_codesTell ho hfr hlo rfl (fun H hR hK => t_recv H hR hK) rfl hcat d k
abbrev mX6_isBendBy : xM := (cX6_isBendBy, 5, RX6, 5, 300, (some .boolean), "isBendBy")
def f_t_isBendBy (x1 : Int32) (x2 : Int32) (x3 : Int32) (x4 : Int32) (τ : TS) : Option (Int32 × TS) :=
  xbd (f_t_turnBy x1 x2 x3 x4 τ) fun r1 τ1 =>
  if xin 3 4 = true then
  if (tA (sI τ1 66 r1) 55 (3 : Int32).toNatClampNeg) = (-1) then
  if (tI (sI τ1 66 r1) 66) ≤ 0 then
  some ((0, sI τ1 66 r1))
  else
  some ((1, sI τ1 66 r1))
  else
  xbd (f_t_codesTell 1 (sI (sI (sI (sI (sI τ1 66 r1) 64 x1) 65 x3) 67 x2) 68 x4)) fun r2 τ2 =>
  if (lg_cmp r2 1) = 0 then
  some ((1, τ2))
  else
  some ((0, τ2))
  else none
theorem ok_f_t_isBendBy {D : TD} {m : Nat} {K : xK} {Z : Option Value × TS} {x1 : Int32} {x2 : Int32} {x3 : Int32} {x4 : Int32} {τ : TS} {o_ : (Int32 × TS)} (hf : f_t_isBendBy x1 x2 x3 x4 τ = some o_) (kr : ∀ r_ : (Int32 × TS), o_ = r_ → Z = (some (.int r_.1), r_.2)) : xV (wT D m) K mX6_isBendBy (xQ (wT D m) K Z) τ 0 [(0, .ref m), (1, .int x1), (2, .int x2), (3, .int x3), (4, .int x4)] [] := by
  unfold f_t_isBendBy at hf
  refine xr_aload_n (pc := 0) 0 dX6_isBendBy_0 rfl rfl ?_
  refine xr_aload_n (pc := 1) 0 dX6_isBendBy_1 rfl rfl ?_
  refine xr_iload_n (pc := 2) 1 dX6_isBendBy_2 rfl rfl ?_
  refine xr_iload_n (pc := 3) 2 dX6_isBendBy_3 rfl rfl ?_
  refine xr_iload_n (pc := 4) 3 dX6_isBendBy_4 rfl rfl ?_
  refine xr_iload (pc := 5) 4 dX6_isBendBy_5 rfl ?_
  obtain ⟨r1, τ1, hτ1, hf⟩ := xo_bd hf
  refine call_f_t_turnBy (pc := 7) hτ1 rfl (Nat.le_of_ble_eq_true rfl) (Nat.le_of_ble_eq_true rfl) (Nat.le_of_ble_eq_true rfl) dX6_isBendBy_7 ?_
  refine xt_putI (pc := 10) 66 (by decide) q1812 rfl rfl rfl (by decide +kernel) rfl dX6_isBendBy_10 ?_
  refine xr_aload_n (pc := 13) 0 dX6_isBendBy_13 rfl rfl ?_
  refine xt_getA (pc := 14) 55 (by decide) q1801 rfl rfl rfl dX6_isBendBy_14 ?_
  refine xr_iconst (pc := 17) dX6_isBendBy_17 xci_3 ?_
  obtain ⟨hi_, hf⟩ := xo_if hf
  refine xt_iald (pc := 18) 55 rfl rfl hi_ dX6_isBendBy_18 ?_
  refine xr_iconst (pc := 19) dX6_isBendBy_19 xci_m1 ?_
  refine xr_icmp_ne (pc := 20) 36 dX6_isBendBy_20 (by decide) (fun c_ => ?_) (fun c_ => ?_)
  · have hf := xo_pos c_ hf
    refine xr_aload_n (pc := 23) 0 dX6_isBendBy_23 rfl rfl ?_
    refine xt_getI (pc := 24) 66 (by decide) q1812 rfl rfl rfl dX6_isBendBy_24 ?_
    refine xr_if_le (pc := 27) 34 dX6_isBendBy_27 (by decide) (fun c_ => ?_) (fun c_ => ?_)
    · have hf := xo_pos c_ hf
      refine xr_iconst (pc := 34) dX6_isBendBy_34 xci_0 ?_
      rw [kr _ (Option.some.inj hf).symm]
      exact xr_zret (pc := 35) dX6_isBendBy_35 rfl xz_0
    · have hf := xo_neg c_ hf
      refine xr_iconst (pc := 30) dX6_isBendBy_30 xci_1 ?_
      refine xr_goto (pc := 31) 35 dX6_isBendBy_31 (by decide) ?_
      rw [kr _ (Option.some.inj hf).symm]
      exact xr_zret (pc := 35) dX6_isBendBy_35 rfl xz_1
  · have hf := xo_neg c_ hf
    refine xr_aload_n (pc := 36) 0 dX6_isBendBy_36 rfl rfl ?_
    refine xr_iload_n (pc := 37) 1 dX6_isBendBy_37 rfl rfl ?_
    refine xt_putI (pc := 38) 64 (by decide) q1810 rfl rfl rfl (by decide +kernel) rfl dX6_isBendBy_38 ?_
    refine xr_aload_n (pc := 41) 0 dX6_isBendBy_41 rfl rfl ?_
    refine xr_iload_n (pc := 42) 3 dX6_isBendBy_42 rfl rfl ?_
    refine xt_putI (pc := 43) 65 (by decide) q1811 rfl rfl rfl (by decide +kernel) rfl dX6_isBendBy_43 ?_
    refine xr_aload_n (pc := 46) 0 dX6_isBendBy_46 rfl rfl ?_
    refine xr_iload_n (pc := 47) 2 dX6_isBendBy_47 rfl rfl ?_
    refine xt_putI (pc := 48) 67 (by decide) q1813 rfl rfl rfl (by decide +kernel) rfl dX6_isBendBy_48 ?_
    refine xr_aload_n (pc := 51) 0 dX6_isBendBy_51 rfl rfl ?_
    refine xr_iload (pc := 52) 4 dX6_isBendBy_52 rfl ?_
    refine xt_putI (pc := 54) 68 (by decide) q1814 rfl rfl rfl (by decide +kernel) rfl dX6_isBendBy_54 ?_
    refine xr_aload_n (pc := 57) 0 dX6_isBendBy_57 rfl rfl ?_
    refine xr_iconst (pc := 58) dX6_isBendBy_58 xci_1 ?_
    obtain ⟨r2, τ2, hτ2, hf⟩ := xo_bd hf
    refine call_f_t_codesTell (pc := 59) hτ2 rfl (Nat.le_of_ble_eq_true rfl) (Nat.le_of_ble_eq_true rfl) (Nat.le_of_ble_eq_true rfl) dX6_isBendBy_59 ?_
    refine xr_lconst (pc := 62) dX6_isBendBy_62 (by decide : _ = (1 : Int64)) ?_
    refine xr_lcmp (pc := 63) dX6_isBendBy_63 ?_
    refine xr_if_ne (pc := 64) 71 dX6_isBendBy_64 (by decide) (fun c_ => ?_) (fun c_ => ?_)
    · have hf := xo_pos c_ hf
      refine xr_iconst (pc := 67) dX6_isBendBy_67 xci_1 ?_
      refine xr_goto (pc := 68) 72 dX6_isBendBy_68 (by decide) ?_
      rw [kr _ (Option.some.inj hf).symm]
      exact xr_zret (pc := 72) dX6_isBendBy_72 rfl xz_1
    · have hf := xo_neg c_ hf
      refine xr_iconst (pc := 71) dX6_isBendBy_71 xci_0 ?_
      rw [kr _ (Option.some.inj hf).symm]
      exact xr_zret (pc := 72) dX6_isBendBy_72 rfl xz_0
theorem met_f_t_isBendBy (l : Launch) {D : TD} {m : Nat} {x1 : Int32} {x2 : Int32} {x3 : Int32} {x4 : Int32} {τ : TS} {o_ : (Int32 × TS)} (hf : f_t_isBendBy x1 x2 x3 x4 τ = some o_) : xMet (wT D m) l yX6_isBendBy (ws_ yX6_isBendBy cX6_isBendBy 5 (some .boolean)) 5 300 0 0 [.ref m, .int x1, .int x2, .int x3, .int x4] τ (some (.int o_.1), o_.2) :=
  xMet_of (by decide) (Nat.le_of_ble_eq_true rfl) KT_moved (fun _ _ => trivial) (fun K _ _ _ => ok_f_t_isBendBy hf (fun _ h => by rw [h]))
theorem hd_f_t_isBendBy : yX6_isBendBy.cls = RX6 ∧ yX6_isBendBy.cls ≠ "java/lang/invoke/MethodHandle" ∧ yX6_isBendBy.cls ≠ "java/lang/invoke/VarHandle" ∧ (parseMethodDescriptor yX6_isBendBy.desc).map (fun d => d.parameters.length) = some 4 := by decide +kernel
theorem call_f_t_isBendBy {D : TD} {m : Nat} {K : xK} {M : xM} {Q : State → Prop} {x1 : Int32} {x2 : Int32} {x3 : Int32} {x4 : Int32} {τ : TS} {pc : Nat} {loc : List (Nat × Value)} {st : List Value} {r : Int32} {τ1 : TS} (hf : f_t_isBendBy x1 x2 x3 x4 τ = some (r, τ1)) (ho : M.2.2.1 = RX6) (hfr : 6 ≤ M.2.2.2.1) (hlo : 324 ≤ M.2.2.2.2.1) (hcat : (st.map fun v => v.category).sum ≤ 8) (d : decode M.1 pc = .ok (.invokevirtual 541, 3)) (k : xV (wT D m) K M Q τ1 (pc + 3) loc (.int r :: st)) : xV (wT D m) K M Q τ pc loc (.int x4 :: .int x3 :: .int x2 :: .int x1 :: .ref m :: st) :=
  xr_callV (As := [.int x1, .int x2, .int x3, .int x4]) (rest := st) (met_f_t_isBendBy K.2.1 hf) (lw_V q2361 q2363 qs112 q186 q2364) hd_f_t_isBendBy ho hfr hlo rfl (fun H hR hK => t_recv H hR hK) rfl hcat d k
abbrev mX6_isBend : xM := (cX6_isBend, 2, RX6, 6, 360, (some .boolean), "isBend")
def f_t_isBend (x1 : Int32) (τ : TS) : Option (Int32 × TS) :=
  xbd (f_t_beforeOf x1 τ) fun r1 τ1 =>
  xbd (f_t_rowOf x1 τ1) fun r2 τ2 =>
  xbd (f_t_behindOf x1 τ2) fun r3 τ3 =>
  xbd (f_t_isBendBy x1 r1 r2 r3 τ3) fun r4 τ4 =>
  some ((r4 &&& 1, τ4))
theorem ok_f_t_isBend {D : TD} {m : Nat} {K : xK} {Z : Option Value × TS} {x1 : Int32} {τ : TS} {o_ : (Int32 × TS)} (hf : f_t_isBend x1 τ = some o_) (kr : ∀ r_ : (Int32 × TS), o_ = r_ → Z = (some (.int r_.1), r_.2)) : xV (wT D m) K mX6_isBend (xQ (wT D m) K Z) τ 0 [(0, .ref m), (1, .int x1)] [] := by
  unfold f_t_isBend at hf
  refine xr_aload_n (pc := 0) 0 dX6_isBend_0 rfl rfl ?_
  refine xr_iload_n (pc := 1) 1 dX6_isBend_1 rfl rfl ?_
  refine xr_aload_n (pc := 2) 0 dX6_isBend_2 rfl rfl ?_
  refine xr_iload_n (pc := 3) 1 dX6_isBend_3 rfl rfl ?_
  obtain ⟨r1, τ1, hτ1, hf⟩ := xo_bd hf
  refine call_f_t_beforeOf (pc := 4) hτ1 rfl (Nat.le_of_ble_eq_true rfl) (Nat.le_of_ble_eq_true rfl) (Nat.le_of_ble_eq_true rfl) dX6_isBend_4 ?_
  refine xr_aload_n (pc := 7) 0 dX6_isBend_7 rfl rfl ?_
  refine xr_iload_n (pc := 8) 1 dX6_isBend_8 rfl rfl ?_
  obtain ⟨r2, τ2, hτ2, hf⟩ := xo_bd hf
  refine call_f_t_rowOf (pc := 9) hτ2 rfl (Nat.le_of_ble_eq_true rfl) (Nat.le_of_ble_eq_true rfl) (Nat.le_of_ble_eq_true rfl) dX6_isBend_9 ?_
  refine xr_aload_n (pc := 12) 0 dX6_isBend_12 rfl rfl ?_
  refine xr_iload_n (pc := 13) 1 dX6_isBend_13 rfl rfl ?_
  obtain ⟨r3, τ3, hτ3, hf⟩ := xo_bd hf
  refine call_f_t_behindOf (pc := 14) hτ3 rfl (Nat.le_of_ble_eq_true rfl) (Nat.le_of_ble_eq_true rfl) (Nat.le_of_ble_eq_true rfl) dX6_isBend_14 ?_
  obtain ⟨r4, τ4, hτ4, hf⟩ := xo_bd hf
  refine call_f_t_isBendBy (pc := 17) hτ4 rfl (Nat.le_of_ble_eq_true rfl) (Nat.le_of_ble_eq_true rfl) (Nat.le_of_ble_eq_true rfl) dX6_isBend_17 ?_
  rw [kr _ (Option.some.inj hf).symm]
  exact xr_zret (pc := 20) dX6_isBend_20 rfl rfl
theorem met_f_t_isBend (l : Launch) {D : TD} {m : Nat} {x1 : Int32} {τ : TS} {o_ : (Int32 × TS)} (hf : f_t_isBend x1 τ = some o_) : xMet (wT D m) l yX6_isBend (ws_ yX6_isBend cX6_isBend 2 (some .boolean)) 6 360 0 0 [.ref m, .int x1] τ (some (.int o_.1), o_.2) :=
  xMet_of (by decide) (Nat.le_of_ble_eq_true rfl) KT_moved (fun _ _ => trivial) (fun K _ _ _ => ok_f_t_isBend hf (fun _ h => by rw [h]))
theorem hd_f_t_isBend : yX6_isBend.cls = RX6 ∧ yX6_isBend.cls ≠ "java/lang/invoke/MethodHandle" ∧ yX6_isBend.cls ≠ "java/lang/invoke/VarHandle" ∧ (parseMethodDescriptor yX6_isBend.desc).map (fun d => d.parameters.length) = some 1 := by decide +kernel
theorem call_f_t_isBend {D : TD} {m : Nat} {K : xK} {M : xM} {Q : State → Prop} {x1 : Int32} {τ : TS} {pc : Nat} {loc : List (Nat × Value)} {st : List Value} {r : Int32} {τ1 : TS} (hf : f_t_isBend x1 τ = some (r, τ1)) (ho : M.2.2.1 = RX6) (hfr : 7 ≤ M.2.2.2.1) (hlo : 381 ≤ M.2.2.2.2.1) (hcat : (st.map fun v => v.category).sum ≤ 8) (d : decode M.1 pc = .ok (.invokevirtual 545, 3)) (k : xV (wT D m) K M Q τ1 (pc + 3) loc (.int r :: st)) : xV (wT D m) K M Q τ pc loc (.int x1 :: .ref m :: st) :=
  xr_callV (As := [.int x1]) (rest := st) (met_f_t_isBend K.2.1 hf) (lw_V q2345 q2347 qs108 q186 q2348) hd_f_t_isBend ho hfr hlo rfl (fun H hR hK => t_recv H hR hK) rfl hcat d k
abbrev mX6_bendMany : xM := (cX6_bendMany, 3, RX6, 7, 420, (some .int), "bendMany")
def Jt_bendMany_23 (x1 : Int32) (x2 : Int32) (τ : TS) : Option ((Int32 × Int32 × TS) ⊕ ((Int32 × TS))) :=
  some (.inl (x1, x2 + 1, τ))
theorem ok_Jt_bendMany_23 {D : TD} {m : Nat} {K : xK} {Z : Option Value × TS} {x1 : Int32} {x2 : Int32} {τ : TS} {o_ : ((Int32 × Int32 × TS) ⊕ ((Int32 × TS)))} (hf : Jt_bendMany_23 x1 x2 τ = some o_) (kc : ∀ s_ : Int32 × Int32 × TS, o_ = .inl s_ → xV (wT D m) K mX6_bendMany (xQ (wT D m) K Z) s_.2.2 4 [(0, .ref m), (1, .int s_.1), (2, .int s_.2.1)] []) (ke0 : ∀ e_ : Int32 × TS, o_ = .inr e_ → xV (wT D m) K mX6_bendMany (xQ (wT D m) K Z) e_.2 29 [(1, .int e_.1)] []) : xV (wT D m) K mX6_bendMany (xQ (wT D m) K Z) τ 23 [(0, .ref m), (1, .int x1), (2, .int x2)] [] := by
  unfold Jt_bendMany_23 at hf
  refine xr_iinc (pc := 23) (loc' := [(2, .int (x2 + 1)), (0, .ref m), (1, .int x1)]) 2 dX6_bendMany_23 rfl xci_1 (by decide) rfl ?_
  refine xr_goto (pc := 26) 4 dX6_bendMany_26 (by decide) ?_
  refine xV_sub [1, 2, 0] rfl ?_
  exact kc _ (Option.some.inj hf).symm
def Bt_bendMany_4 (x1 : Int32) (x2 : Int32) (τ : TS) : Option ((Int32 × Int32 × TS) ⊕ ((Int32 × TS))) :=
  xbd (f_t_columnMany τ) fun r1 τ1 =>
  if r1 ≤ x2 then
  some (.inr (x1, τ1))
  else
  xbd (f_t_isBend x2 τ1) fun r2 τ2 =>
  if r2 = 0 then
  Jt_bendMany_23 x1 x2 τ2
  else
  Jt_bendMany_23 (x1 + 1) x2 τ2
theorem ok_Bt_bendMany_4 {D : TD} {m : Nat} {K : xK} {Z : Option Value × TS} {x1 : Int32} {x2 : Int32} {τ : TS} {o_ : ((Int32 × Int32 × TS) ⊕ ((Int32 × TS)))} (hf : Bt_bendMany_4 x1 x2 τ = some o_) (kc : ∀ s_ : Int32 × Int32 × TS, o_ = .inl s_ → xV (wT D m) K mX6_bendMany (xQ (wT D m) K Z) s_.2.2 4 [(0, .ref m), (1, .int s_.1), (2, .int s_.2.1)] []) (ke0 : ∀ e_ : Int32 × TS, o_ = .inr e_ → xV (wT D m) K mX6_bendMany (xQ (wT D m) K Z) e_.2 29 [(1, .int e_.1)] []) : xV (wT D m) K mX6_bendMany (xQ (wT D m) K Z) τ 4 [(0, .ref m), (1, .int x1), (2, .int x2)] [] := by
  unfold Bt_bendMany_4 at hf
  refine xr_iload_n (pc := 4) 2 dX6_bendMany_4 rfl rfl ?_
  refine xr_aload_n (pc := 5) 0 dX6_bendMany_5 rfl rfl ?_
  obtain ⟨r1, τ1, hτ1, hf⟩ := xo_bd hf
  refine call_f_t_columnMany (pc := 6) hτ1 rfl (Nat.le_of_ble_eq_true rfl) (Nat.le_of_ble_eq_true rfl) (Nat.le_of_ble_eq_true rfl) dX6_bendMany_6 ?_
  refine xr_icmp_ge (pc := 9) 29 dX6_bendMany_9 (by decide) (fun c_ => ?_) (fun c_ => ?_)
  · have hf := xo_pos c_ hf
    refine xV_sub [1] rfl ?_
    exact ke0 _ (Option.some.inj hf).symm
  · have hf := xo_neg c_ hf
    refine xr_aload_n (pc := 12) 0 dX6_bendMany_12 rfl rfl ?_
    refine xr_iload_n (pc := 13) 2 dX6_bendMany_13 rfl rfl ?_
    obtain ⟨r2, τ2, hτ2, hf⟩ := xo_bd hf
    refine call_f_t_isBend (pc := 14) hτ2 rfl (Nat.le_of_ble_eq_true rfl) (Nat.le_of_ble_eq_true rfl) (Nat.le_of_ble_eq_true rfl) dX6_bendMany_14 ?_
    refine xr_if_eq (pc := 17) 23 dX6_bendMany_17 (by decide) (fun c_ => ?_) (fun c_ => ?_)
    · have hf := xo_pos c_ hf
      exact ok_Jt_bendMany_23 hf kc ke0
    · have hf := xo_neg c_ hf
      refine xr_iinc (pc := 20) (loc' := [(1, .int (x1 + 1)), (0, .ref m), (2, .int x2)]) 1 dX6_bendMany_20 rfl xci_1 (by decide) rfl ?_
      refine xV_sub [1, 0, 2] rfl ?_
      exact ok_Jt_bendMany_23 hf kc ke0
def f_t_bendMany (τ : TS) : Option (Int32 × TS) :=
  (itr (fun s_ : Int32 × Int32 × TS => Bt_bendMany_4 s_.1 s_.2.1 s_.2.2) 4096 (0, 0, τ)).bind fun b3 =>
  some ((b3.1, b3.2))
theorem ok_f_t_bendMany {D : TD} {m : Nat} {K : xK} {Z : Option Value × TS} {τ : TS} {o_ : (Int32 × TS)} (hf : f_t_bendMany τ = some o_) (kr : ∀ r_ : (Int32 × TS), o_ = r_ → Z = (some (.int r_.1), r_.2)) : xV (wT D m) K mX6_bendMany (xQ (wT D m) K Z) τ 0 [(0, .ref m)] [] := by
  unfold f_t_bendMany at hf
  refine xr_iconst (pc := 0) dX6_bendMany_0 xci_0 ?_
  refine xr_istore_n (pc := 1) (loc' := [(1, .int 0), (0, .ref m)]) dX6_bendMany_1 rfl (by decide) rfl ?_
  refine xr_iconst (pc := 2) dX6_bendMany_2 xci_0 ?_
  refine xr_istore_n (pc := 3) (loc' := [(2, .int 0), (1, .int 0), (0, .ref m)]) dX6_bendMany_3 rfl (by decide) rfl ?_
  refine xV_sub [2, 1, 0] rfl ?_
  obtain ⟨b3, hb3, hf⟩ := xo_bind hf
  refine itr_rule (P := fun s_ : Int32 × Int32 × TS => xV (wT D m) K mX6_bendMany (xQ (wT D m) K Z) s_.2.2 4 [(0, .ref m), (1, .int s_.1), (2, .int s_.2.1)] []) (fun s_ o_ hB_ hc_ he_ => ok_Bt_bendMany_4 hB_ hc_ (fun e_ h_ => ?_)) 4096 _ hb3
  · have e9_ := he_ _ h_
    rw [e9_]
    refine xr_iload_n (pc := 29) 0 dX6_bendMany_29 rfl rfl ?_
    rw [kr _ (Option.some.inj hf).symm]
    exact xr_iret (pc := 30) dX6_bendMany_30 rfl
theorem met_f_t_bendMany (l : Launch) {D : TD} {m : Nat} {τ : TS} {o_ : (Int32 × TS)} (hf : f_t_bendMany τ = some o_) : xMet (wT D m) l yX6_bendMany (ws_ yX6_bendMany cX6_bendMany 3 (some .int)) 7 420 0 0 [.ref m] τ (some (.int o_.1), o_.2) :=
  xMet_of (by decide) (Nat.le_of_ble_eq_true rfl) KT_moved (fun _ _ => trivial) (fun K _ _ _ => ok_f_t_bendMany hf (fun _ h => by rw [h]))
theorem hd_f_t_bendMany : yX6_bendMany.cls = RX6 ∧ yX6_bendMany.cls ≠ "java/lang/invoke/MethodHandle" ∧ yX6_bendMany.cls ≠ "java/lang/invoke/VarHandle" ∧ (parseMethodDescriptor yX6_bendMany.desc).map (fun d => d.parameters.length) = some 0 := by decide +kernel
theorem call_f_t_bendMany {D : TD} {m : Nat} {K : xK} {M : xM} {Q : State → Prop} {τ : TS} {pc : Nat} {loc : List (Nat × Value)} {st : List Value} {r : Int32} {τ1 : TS} (hf : f_t_bendMany τ = some (r, τ1)) (ho : M.2.2.1 = RX6) (hfr : 8 ≤ M.2.2.2.1) (hlo : 442 ≤ M.2.2.2.2.1) (hcat : (st.map fun v => v.category).sum ≤ 8) (d : decode M.1 pc = .ok (.invokevirtual 576, 3)) (k : xV (wT D m) K M Q τ1 (pc + 3) loc (.int r :: st)) : xV (wT D m) K M Q τ pc loc (.ref m :: st) :=
  xr_callV (As := []) (rest := st) (met_f_t_bendMany K.2.1 hf) (lw_V q2337 q2339 qs106 q186 q2340) hd_f_t_bendMany ho hfr hlo rfl (fun H hR hK => t_recv H hR hK) rfl hcat d k
abbrev mX6_offerMany : xM := (cX6_offerMany, 3, RX6, 1, 60, (some .int), "offerMany")
def Jt_offerMany_23 (x1 : Int32) (x2 : Int32) (τ : TS) : Option ((Int32 × Int32 × TS) ⊕ ((Int32 × TS))) :=
  some (.inl (x1, x2 + 1, τ))
theorem ok_Jt_offerMany_23 {D : TD} {m : Nat} {K : xK} {Z : Option Value × TS} {x1 : Int32} {x2 : Int32} {τ : TS} {o_ : ((Int32 × Int32 × TS) ⊕ ((Int32 × TS)))} (hf : Jt_offerMany_23 x1 x2 τ = some o_) (kc : ∀ s_ : Int32 × Int32 × TS, o_ = .inl s_ → xV (wT D m) K mX6_offerMany (xQ (wT D m) K Z) s_.2.2 4 [(0, .ref m), (1, .int s_.1), (2, .int s_.2.1)] []) (ke0 : ∀ e_ : Int32 × TS, o_ = .inr e_ → xV (wT D m) K mX6_offerMany (xQ (wT D m) K Z) e_.2 29 [(1, .int e_.1)] []) : xV (wT D m) K mX6_offerMany (xQ (wT D m) K Z) τ 23 [(0, .ref m), (1, .int x1), (2, .int x2)] [] := by
  unfold Jt_offerMany_23 at hf
  refine xr_iinc (pc := 23) (loc' := [(2, .int (x2 + 1)), (0, .ref m), (1, .int x1)]) 2 dX6_offerMany_23 rfl xci_1 (by decide) rfl ?_
  refine xr_goto (pc := 26) 4 dX6_offerMany_26 (by decide) ?_
  refine xV_sub [1, 2, 0] rfl ?_
  exact kc _ (Option.some.inj hf).symm
def Bt_offerMany_4 (x1 : Int32) (x2 : Int32) (τ : TS) : Option ((Int32 × Int32 × TS) ⊕ ((Int32 × TS))) :=
  xbd (f_t_lordMany τ) fun r1 τ1 =>
  if r1 ≤ x2 then
  some (.inr (x1, τ1))
  else
  xbd (f_t_doesOffer x2 τ1) fun r2 τ2 =>
  if r2 = 0 then
  Jt_offerMany_23 x1 x2 τ2
  else
  Jt_offerMany_23 (x1 + 1) x2 τ2
theorem ok_Bt_offerMany_4 {D : TD} {m : Nat} {K : xK} {Z : Option Value × TS} {x1 : Int32} {x2 : Int32} {τ : TS} {o_ : ((Int32 × Int32 × TS) ⊕ ((Int32 × TS)))} (hf : Bt_offerMany_4 x1 x2 τ = some o_) (kc : ∀ s_ : Int32 × Int32 × TS, o_ = .inl s_ → xV (wT D m) K mX6_offerMany (xQ (wT D m) K Z) s_.2.2 4 [(0, .ref m), (1, .int s_.1), (2, .int s_.2.1)] []) (ke0 : ∀ e_ : Int32 × TS, o_ = .inr e_ → xV (wT D m) K mX6_offerMany (xQ (wT D m) K Z) e_.2 29 [(1, .int e_.1)] []) : xV (wT D m) K mX6_offerMany (xQ (wT D m) K Z) τ 4 [(0, .ref m), (1, .int x1), (2, .int x2)] [] := by
  unfold Bt_offerMany_4 at hf
  refine xr_iload_n (pc := 4) 2 dX6_offerMany_4 rfl rfl ?_
  refine xr_aload_n (pc := 5) 0 dX6_offerMany_5 rfl rfl ?_
  obtain ⟨r1, τ1, hτ1, hf⟩ := xo_bd hf
  refine call_f_t_lordMany (pc := 6) hτ1 rfl (Nat.le_of_ble_eq_true rfl) (Nat.le_of_ble_eq_true rfl) (Nat.le_of_ble_eq_true rfl) dX6_offerMany_6 ?_
  refine xr_icmp_ge (pc := 9) 29 dX6_offerMany_9 (by decide) (fun c_ => ?_) (fun c_ => ?_)
  · have hf := xo_pos c_ hf
    refine xV_sub [1] rfl ?_
    exact ke0 _ (Option.some.inj hf).symm
  · have hf := xo_neg c_ hf
    refine xr_aload_n (pc := 12) 0 dX6_offerMany_12 rfl rfl ?_
    refine xr_iload_n (pc := 13) 2 dX6_offerMany_13 rfl rfl ?_
    obtain ⟨r2, τ2, hτ2, hf⟩ := xo_bd hf
    refine call_f_t_doesOffer (pc := 14) hτ2 rfl (Nat.le_of_ble_eq_true rfl) (Nat.le_of_ble_eq_true rfl) (Nat.le_of_ble_eq_true rfl) dX6_offerMany_14 ?_
    refine xr_if_eq (pc := 17) 23 dX6_offerMany_17 (by decide) (fun c_ => ?_) (fun c_ => ?_)
    · have hf := xo_pos c_ hf
      exact ok_Jt_offerMany_23 hf kc ke0
    · have hf := xo_neg c_ hf
      refine xr_iinc (pc := 20) (loc' := [(1, .int (x1 + 1)), (0, .ref m), (2, .int x2)]) 1 dX6_offerMany_20 rfl xci_1 (by decide) rfl ?_
      refine xV_sub [1, 0, 2] rfl ?_
      exact ok_Jt_offerMany_23 hf kc ke0
def f_t_offerMany (τ : TS) : Option (Int32 × TS) :=
  (itr (fun s_ : Int32 × Int32 × TS => Bt_offerMany_4 s_.1 s_.2.1 s_.2.2) 4096 (0, 0, τ)).bind fun b3 =>
  some ((b3.1, b3.2))
theorem ok_f_t_offerMany {D : TD} {m : Nat} {K : xK} {Z : Option Value × TS} {τ : TS} {o_ : (Int32 × TS)} (hf : f_t_offerMany τ = some o_) (kr : ∀ r_ : (Int32 × TS), o_ = r_ → Z = (some (.int r_.1), r_.2)) : xV (wT D m) K mX6_offerMany (xQ (wT D m) K Z) τ 0 [(0, .ref m)] [] := by
  unfold f_t_offerMany at hf
  refine xr_iconst (pc := 0) dX6_offerMany_0 xci_0 ?_
  refine xr_istore_n (pc := 1) (loc' := [(1, .int 0), (0, .ref m)]) dX6_offerMany_1 rfl (by decide) rfl ?_
  refine xr_iconst (pc := 2) dX6_offerMany_2 xci_0 ?_
  refine xr_istore_n (pc := 3) (loc' := [(2, .int 0), (1, .int 0), (0, .ref m)]) dX6_offerMany_3 rfl (by decide) rfl ?_
  refine xV_sub [2, 1, 0] rfl ?_
  obtain ⟨b3, hb3, hf⟩ := xo_bind hf
  refine itr_rule (P := fun s_ : Int32 × Int32 × TS => xV (wT D m) K mX6_offerMany (xQ (wT D m) K Z) s_.2.2 4 [(0, .ref m), (1, .int s_.1), (2, .int s_.2.1)] []) (fun s_ o_ hB_ hc_ he_ => ok_Bt_offerMany_4 hB_ hc_ (fun e_ h_ => ?_)) 4096 _ hb3
  · have e9_ := he_ _ h_
    rw [e9_]
    refine xr_iload_n (pc := 29) 0 dX6_offerMany_29 rfl rfl ?_
    rw [kr _ (Option.some.inj hf).symm]
    exact xr_iret (pc := 30) dX6_offerMany_30 rfl
theorem met_f_t_offerMany (l : Launch) {D : TD} {m : Nat} {τ : TS} {o_ : (Int32 × TS)} (hf : f_t_offerMany τ = some o_) : xMet (wT D m) l yX6_offerMany (ws_ yX6_offerMany cX6_offerMany 3 (some .int)) 1 60 0 0 [.ref m] τ (some (.int o_.1), o_.2) :=
  xMet_of (by decide) (Nat.le_of_ble_eq_true rfl) KT_moved (fun _ _ => trivial) (fun K _ _ _ => ok_f_t_offerMany hf (fun _ h => by rw [h]))
theorem hd_f_t_offerMany : yX6_offerMany.cls = RX6 ∧ yX6_offerMany.cls ≠ "java/lang/invoke/MethodHandle" ∧ yX6_offerMany.cls ≠ "java/lang/invoke/VarHandle" ∧ (parseMethodDescriptor yX6_offerMany.desc).map (fun d => d.parameters.length) = some 0 := by decide +kernel
theorem call_f_t_offerMany {D : TD} {m : Nat} {K : xK} {M : xM} {Q : State → Prop} {τ : TS} {pc : Nat} {loc : List (Nat × Value)} {st : List Value} {r : Int32} {τ1 : TS} (hf : f_t_offerMany τ = some (r, τ1)) (ho : M.2.2.1 = RX6) (hfr : 2 ≤ M.2.2.2.1) (hlo : 82 ≤ M.2.2.2.2.1) (hcat : (st.map fun v => v.category).sum ≤ 8) (d : decode M.1 pc = .ok (.invokevirtual 579, 3)) (k : xV (wT D m) K M Q τ1 (pc + 3) loc (.int r :: st)) : xV (wT D m) K M Q τ pc loc (.ref m :: st) :=
  xr_callV (As := []) (rest := st) (met_f_t_offerMany K.2.1 hf) (lw_V q2425 q2427 qs126 q186 q2428) hd_f_t_offerMany ho hfr hlo rfl (fun H hR hK => t_recv H hR hK) rfl hcat d k
abbrev mX6_willowAll : xM := (cX6_willowAll, 3, RX6, 1, 60, (some .int), "willowAll")
def Bt_willowAll_4 (x1 : Int32) (x2 : Int32) (τ : TS) : Option ((Int32 × Int32 × TS) ⊕ ((Int32 × TS))) :=
  if 80 ≤ x2 then
  some (.inr (x1, τ))
  else
  xbd (f_t_willowsAt x2 τ) fun r1 τ1 =>
  some (.inl (x1 + r1, x2 + 1, τ1))
theorem ok_Bt_willowAll_4 {D : TD} {m : Nat} {K : xK} {Z : Option Value × TS} {x1 : Int32} {x2 : Int32} {τ : TS} {o_ : ((Int32 × Int32 × TS) ⊕ ((Int32 × TS)))} (hf : Bt_willowAll_4 x1 x2 τ = some o_) (kc : ∀ s_ : Int32 × Int32 × TS, o_ = .inl s_ → xV (wT D m) K mX6_willowAll (xQ (wT D m) K Z) s_.2.2 4 [(0, .ref m), (1, .int s_.1), (2, .int s_.2.1)] []) (ke0 : ∀ e_ : Int32 × TS, o_ = .inr e_ → xV (wT D m) K mX6_willowAll (xQ (wT D m) K Z) e_.2 24 [(1, .int e_.1)] []) : xV (wT D m) K mX6_willowAll (xQ (wT D m) K Z) τ 4 [(0, .ref m), (1, .int x1), (2, .int x2)] [] := by
  unfold Bt_willowAll_4 at hf
  refine xr_iload_n (pc := 4) 2 dX6_willowAll_4 rfl rfl ?_
  refine xr_bipush (pc := 5) dX6_willowAll_5 xcb_80 ?_
  refine xr_icmp_ge (pc := 7) 24 dX6_willowAll_7 (by decide) (fun c_ => ?_) (fun c_ => ?_)
  · have hf := xo_pos c_ hf
    refine xV_sub [1] rfl ?_
    exact ke0 _ (Option.some.inj hf).symm
  · have hf := xo_neg c_ hf
    refine xr_iload_n (pc := 10) 1 dX6_willowAll_10 rfl rfl ?_
    refine xr_aload_n (pc := 11) 0 dX6_willowAll_11 rfl rfl ?_
    refine xr_iload_n (pc := 12) 2 dX6_willowAll_12 rfl rfl ?_
    obtain ⟨r1, τ1, hτ1, hf⟩ := xo_bd hf
    refine call_f_t_willowsAt (pc := 13) hτ1 rfl (Nat.le_of_ble_eq_true rfl) (Nat.le_of_ble_eq_true rfl) (Nat.le_of_ble_eq_true rfl) dX6_willowAll_13 ?_
    refine xr_iadd (pc := 16) dX6_willowAll_16 ?_
    refine xr_istore_n (pc := 17) (loc' := [(1, .int (x1 + r1)), (0, .ref m), (2, .int x2)]) dX6_willowAll_17 rfl (by decide) rfl ?_
    refine xr_iinc (pc := 18) (loc' := [(2, .int (x2 + 1)), (1, .int (x1 + r1)), (0, .ref m)]) 2 dX6_willowAll_18 rfl xci_1 (by decide) rfl ?_
    refine xr_goto (pc := 21) 4 dX6_willowAll_21 (by decide) ?_
    refine xV_sub [2, 1, 0] rfl ?_
    exact kc _ (Option.some.inj hf).symm
def f_t_willowAll (τ : TS) : Option (Int32 × TS) :=
  (itr (fun s_ : Int32 × Int32 × TS => Bt_willowAll_4 s_.1 s_.2.1 s_.2.2) 4096 (0, 0, τ)).bind fun b2 =>
  some ((b2.1, b2.2))
theorem ok_f_t_willowAll {D : TD} {m : Nat} {K : xK} {Z : Option Value × TS} {τ : TS} {o_ : (Int32 × TS)} (hf : f_t_willowAll τ = some o_) (kr : ∀ r_ : (Int32 × TS), o_ = r_ → Z = (some (.int r_.1), r_.2)) : xV (wT D m) K mX6_willowAll (xQ (wT D m) K Z) τ 0 [(0, .ref m)] [] := by
  unfold f_t_willowAll at hf
  refine xr_iconst (pc := 0) dX6_willowAll_0 xci_0 ?_
  refine xr_istore_n (pc := 1) (loc' := [(1, .int 0), (0, .ref m)]) dX6_willowAll_1 rfl (by decide) rfl ?_
  refine xr_iconst (pc := 2) dX6_willowAll_2 xci_0 ?_
  refine xr_istore_n (pc := 3) (loc' := [(2, .int 0), (1, .int 0), (0, .ref m)]) dX6_willowAll_3 rfl (by decide) rfl ?_
  refine xV_sub [2, 1, 0] rfl ?_
  obtain ⟨b2, hb2, hf⟩ := xo_bind hf
  refine itr_rule (P := fun s_ : Int32 × Int32 × TS => xV (wT D m) K mX6_willowAll (xQ (wT D m) K Z) s_.2.2 4 [(0, .ref m), (1, .int s_.1), (2, .int s_.2.1)] []) (fun s_ o_ hB_ hc_ he_ => ok_Bt_willowAll_4 hB_ hc_ (fun e_ h_ => ?_)) 4096 _ hb2
  · have e9_ := he_ _ h_
    rw [e9_]
    refine xr_iload_n (pc := 24) 0 dX6_willowAll_24 rfl rfl ?_
    rw [kr _ (Option.some.inj hf).symm]
    exact xr_iret (pc := 25) dX6_willowAll_25 rfl
theorem met_f_t_willowAll (l : Launch) {D : TD} {m : Nat} {τ : TS} {o_ : (Int32 × TS)} (hf : f_t_willowAll τ = some o_) : xMet (wT D m) l yX6_willowAll (ws_ yX6_willowAll cX6_willowAll 3 (some .int)) 1 60 0 0 [.ref m] τ (some (.int o_.1), o_.2) :=
  xMet_of (by decide) (Nat.le_of_ble_eq_true rfl) KT_moved (fun _ _ => trivial) (fun K _ _ _ => ok_f_t_willowAll hf (fun _ h => by rw [h]))
theorem hd_f_t_willowAll : yX6_willowAll.cls = RX6 ∧ yX6_willowAll.cls ≠ "java/lang/invoke/MethodHandle" ∧ yX6_willowAll.cls ≠ "java/lang/invoke/VarHandle" ∧ (parseMethodDescriptor yX6_willowAll.desc).map (fun d => d.parameters.length) = some 0 := by decide +kernel
theorem call_f_t_willowAll {D : TD} {m : Nat} {K : xK} {M : xM} {Q : State → Prop} {τ : TS} {pc : Nat} {loc : List (Nat × Value)} {st : List Value} {r : Int32} {τ1 : TS} (hf : f_t_willowAll τ = some (r, τ1)) (ho : M.2.2.1 = RX6) (hfr : 2 ≤ M.2.2.2.1) (hlo : 82 ≤ M.2.2.2.2.1) (hcat : (st.map fun v => v.category).sum ≤ 8) (d : decode M.1 pc = .ok (.invokevirtual 582, 3)) (k : xV (wT D m) K M Q τ1 (pc + 3) loc (.int r :: st)) : xV (wT D m) K M Q τ pc loc (.ref m :: st) :=
  xr_callV (As := []) (rest := st) (met_f_t_willowAll K.2.1 hf) (lw_V q2429 q2431 qs127 q186 q2432) hd_f_t_willowAll ho hfr hlo rfl (fun H hR hK => t_recv H hR hK) rfl hcat d k
abbrev mX6_has : xM := (cX6_has, 2, RX6, 8, 480, (some .int), "has")
def Jt_has_74 (x1 : Int32) (τ : TS) : Option (Int32 × TS) :=
  if xin (x1 - 3) 303 = true then
  some ((tA τ 62 (x1 - 3).toNatClampNeg, τ))
  else none
theorem ok_Jt_has_74 {D : TD} {m : Nat} {K : xK} {Z : Option Value × TS} {x1 : Int32} {τ : TS} {o_ : (Int32 × TS)} (hf : Jt_has_74 x1 τ = some o_) (kr : ∀ r_ : (Int32 × TS), o_ = r_ → Z = (some (.int r_.1), r_.2)) : xV (wT D m) K mX6_has (xQ (wT D m) K Z) τ 74 [(0, .ref m), (1, .int x1)] [] := by
  unfold Jt_has_74 at hf
  refine xr_aload_n (pc := 74) 0 dX6_has_74 rfl rfl ?_
  refine xt_getA (pc := 75) 62 (by decide) q1808 rfl rfl rfl dX6_has_75 ?_
  refine xr_iload_n (pc := 78) 1 dX6_has_78 rfl rfl ?_
  refine xr_iconst (pc := 79) dX6_has_79 xci_3 ?_
  refine xr_isub (pc := 80) dX6_has_80 ?_
  obtain ⟨hi_, hf⟩ := xo_if hf
  refine xt_iald (pc := 81) 62 rfl rfl hi_ dX6_has_81 ?_
  rw [kr _ (Option.some.inj hf).symm]
  exact xr_iret (pc := 82) dX6_has_82 rfl
def Jt_has_60 (x1 : Int32) (τ : TS) : Option (Int32 × TS) :=
  if xin (3 + x1) 6 = true then
  some ((tA τ 45 (3 + x1).toNatClampNeg, τ))
  else none
theorem ok_Jt_has_60 {D : TD} {m : Nat} {K : xK} {Z : Option Value × TS} {x1 : Int32} {τ : TS} {o_ : (Int32 × TS)} (hf : Jt_has_60 x1 τ = some o_) (kr : ∀ r_ : (Int32 × TS), o_ = r_ → Z = (some (.int r_.1), r_.2)) : xV (wT D m) K mX6_has (xQ (wT D m) K Z) τ 60 [(0, .ref m), (1, .int x1)] [] := by
  unfold Jt_has_60 at hf
  refine xr_aload_n (pc := 60) 0 dX6_has_60 rfl rfl ?_
  refine xt_getA (pc := 61) 45 (by decide) q1791 rfl rfl rfl dX6_has_61 ?_
  refine xr_iconst (pc := 64) dX6_has_64 xci_3 ?_
  refine xr_iload_n (pc := 65) 1 dX6_has_65 rfl rfl ?_
  refine xr_iadd (pc := 66) dX6_has_66 ?_
  obtain ⟨hi_, hf⟩ := xo_if hf
  refine xt_iald (pc := 67) 45 rfl rfl hi_ dX6_has_67 ?_
  rw [kr _ (Option.some.inj hf).symm]
  exact xr_iret (pc := 68) dX6_has_68 rfl
def f_t_has (x1 : Int32) (τ : TS) : Option (Int32 × TS) :=
  if x1 = 0 then
  Jt_has_60 x1 τ
  else
  if x1 = 1 then
  Jt_has_60 x1 τ
  else
  if x1 = 2 then
  xbd (f_t_lordMany τ) fun r4 τ4 =>
  some ((r4, τ4))
  else
  if x1 = 3 then
  Jt_has_74 x1 τ
  else
  if x1 = 4 then
  Jt_has_74 x1 τ
  else
  if x1 = 5 then
  xbd (f_t_bendMany τ) fun r3 τ3 =>
  some ((r3, τ3))
  else
  if x1 = 6 then
  xbd (f_t_offerMany τ) fun r2 τ2 =>
  some ((r2, τ2))
  else
  if x1 = 7 then
  xbd (f_t_willowAll τ) fun r1 τ1 =>
  some ((r1, τ1))
  else
  if x1 = 8 then
  if xin 182 303 = true then
  some ((tA τ 62 (182 : Int32).toNatClampNeg, τ))
  else none
  else
  if x1 = 9 then
  some ((tI τ 79, τ))
  else
  if x1 = 10 then
  some ((tI τ 85, τ))
  else
  some (((-1), τ))
theorem ok_f_t_has {D : TD} {m : Nat} {K : xK} {Z : Option Value × TS} {x1 : Int32} {τ : TS} {o_ : (Int32 × TS)} (hf : f_t_has x1 τ = some o_) (kr : ∀ r_ : (Int32 × TS), o_ = r_ → Z = (some (.int r_.1), r_.2)) : xV (wT D m) K mX6_has (xQ (wT D m) K Z) τ 0 [(0, .ref m), (1, .int x1)] [] := by
  unfold f_t_has at hf
  refine xr_iload_n (pc := 0) 1 dX6_has_0 rfl rfl ?_
  by_cases c0_ : x1 = 0
  · have hf := xo_pos c0_ hf
    refine xr_tsw_in (pc := 1) (v := 0) (off := 59) 60 dX6_has_1 c0_ (by decide) (by decide +kernel) (by decide) ?_
    exact ok_Jt_has_60 hf kr
  have hf := xo_neg c0_ hf
  by_cases c1_ : x1 = 1
  · have hf := xo_pos c1_ hf
    refine xr_tsw_in (pc := 1) (v := 1) (off := 59) 60 dX6_has_1 c1_ (by decide) (by decide +kernel) (by decide) ?_
    exact ok_Jt_has_60 hf kr
  have hf := xo_neg c1_ hf
  by_cases c2_ : x1 = 2
  · have hf := xo_pos c2_ hf
    refine xr_tsw_in (pc := 1) (v := 2) (off := 68) 69 dX6_has_1 c2_ (by decide) (by decide +kernel) (by decide) ?_
    refine xr_aload_n (pc := 69) 0 dX6_has_69 rfl rfl ?_
    obtain ⟨r4, τ4, hτ4, hf⟩ := xo_bd hf
    refine call_f_t_lordMany (pc := 70) hτ4 rfl (Nat.le_of_ble_eq_true rfl) (Nat.le_of_ble_eq_true rfl) (Nat.le_of_ble_eq_true rfl) dX6_has_70 ?_
    rw [kr _ (Option.some.inj hf).symm]
    exact xr_iret (pc := 73) dX6_has_73 rfl
  have hf := xo_neg c2_ hf
  by_cases c3_ : x1 = 3
  · have hf := xo_pos c3_ hf
    refine xr_tsw_in (pc := 1) (v := 3) (off := 73) 74 dX6_has_1 c3_ (by decide) (by decide +kernel) (by decide) ?_
    exact ok_Jt_has_74 hf kr
  have hf := xo_neg c3_ hf
  by_cases c4_ : x1 = 4
  · have hf := xo_pos c4_ hf
    refine xr_tsw_in (pc := 1) (v := 4) (off := 73) 74 dX6_has_1 c4_ (by decide) (by decide +kernel) (by decide) ?_
    exact ok_Jt_has_74 hf kr
  have hf := xo_neg c4_ hf
  by_cases c5_ : x1 = 5
  · have hf := xo_pos c5_ hf
    refine xr_tsw_in (pc := 1) (v := 5) (off := 82) 83 dX6_has_1 c5_ (by decide) (by decide +kernel) (by decide) ?_
    refine xr_aload_n (pc := 83) 0 dX6_has_83 rfl rfl ?_
    obtain ⟨r3, τ3, hτ3, hf⟩ := xo_bd hf
    refine call_f_t_bendMany (pc := 84) hτ3 rfl (Nat.le_of_ble_eq_true rfl) (Nat.le_of_ble_eq_true rfl) (Nat.le_of_ble_eq_true rfl) dX6_has_84 ?_
    rw [kr _ (Option.some.inj hf).symm]
    exact xr_iret (pc := 87) dX6_has_87 rfl
  have hf := xo_neg c5_ hf
  by_cases c6_ : x1 = 6
  · have hf := xo_pos c6_ hf
    refine xr_tsw_in (pc := 1) (v := 6) (off := 87) 88 dX6_has_1 c6_ (by decide) (by decide +kernel) (by decide) ?_
    refine xr_aload_n (pc := 88) 0 dX6_has_88 rfl rfl ?_
    obtain ⟨r2, τ2, hτ2, hf⟩ := xo_bd hf
    refine call_f_t_offerMany (pc := 89) hτ2 rfl (Nat.le_of_ble_eq_true rfl) (Nat.le_of_ble_eq_true rfl) (Nat.le_of_ble_eq_true rfl) dX6_has_89 ?_
    rw [kr _ (Option.some.inj hf).symm]
    exact xr_iret (pc := 92) dX6_has_92 rfl
  have hf := xo_neg c6_ hf
  by_cases c7_ : x1 = 7
  · have hf := xo_pos c7_ hf
    refine xr_tsw_in (pc := 1) (v := 7) (off := 92) 93 dX6_has_1 c7_ (by decide) (by decide +kernel) (by decide) ?_
    refine xr_aload_n (pc := 93) 0 dX6_has_93 rfl rfl ?_
    obtain ⟨r1, τ1, hτ1, hf⟩ := xo_bd hf
    refine call_f_t_willowAll (pc := 94) hτ1 rfl (Nat.le_of_ble_eq_true rfl) (Nat.le_of_ble_eq_true rfl) (Nat.le_of_ble_eq_true rfl) dX6_has_94 ?_
    rw [kr _ (Option.some.inj hf).symm]
    exact xr_iret (pc := 97) dX6_has_97 rfl
  have hf := xo_neg c7_ hf
  by_cases c8_ : x1 = 8
  · have hf := xo_pos c8_ hf
    refine xr_tsw_in (pc := 1) (v := 8) (off := 97) 98 dX6_has_1 c8_ (by decide) (by decide +kernel) (by decide) ?_
    refine xr_aload_n (pc := 98) 0 dX6_has_98 rfl rfl ?_
    refine xt_getA (pc := 99) 62 (by decide) q1808 rfl rfl rfl dX6_has_99 ?_
    refine xr_sipush (pc := 102) dX6_has_102 xcs_182 ?_
    obtain ⟨hi_, hf⟩ := xo_if hf
    refine xt_iald (pc := 105) 62 rfl rfl hi_ dX6_has_105 ?_
    rw [kr _ (Option.some.inj hf).symm]
    exact xr_iret (pc := 106) dX6_has_106 rfl
  have hf := xo_neg c8_ hf
  by_cases c9_ : x1 = 9
  · have hf := xo_pos c9_ hf
    refine xr_tsw_in (pc := 1) (v := 9) (off := 106) 107 dX6_has_1 c9_ (by decide) (by decide +kernel) (by decide) ?_
    refine xr_aload_n (pc := 107) 0 dX6_has_107 rfl rfl ?_
    refine xt_getI (pc := 108) 79 (by decide) q1825 rfl rfl rfl dX6_has_108 ?_
    rw [kr _ (Option.some.inj hf).symm]
    exact xr_iret (pc := 111) dX6_has_111 rfl
  have hf := xo_neg c9_ hf
  by_cases c10_ : x1 = 10
  · have hf := xo_pos c10_ hf
    refine xr_tsw_in (pc := 1) (v := 10) (off := 111) 112 dX6_has_1 c10_ (by decide) (by decide +kernel) (by decide) ?_
    refine xr_aload_n (pc := 112) 0 dX6_has_112 rfl rfl ?_
    refine xt_getI (pc := 113) 85 (by decide) q1831 rfl rfl rfl dX6_has_113 ?_
    rw [kr _ (Option.some.inj hf).symm]
    exact xr_iret (pc := 116) dX6_has_116 rfl
  have hf := xo_neg c10_ hf
  refine xr_tsw_out (pc := 1) 117 dX6_has_1 (xsw_out 0 10 [0, 1, 2, 3, 4, 5, 6, 7, 8, 9, 10] (by decide +kernel) (List.forall_mem_cons.mpr ⟨c0_, List.forall_mem_cons.mpr ⟨c1_, List.forall_mem_cons.mpr ⟨c2_, List.forall_mem_cons.mpr ⟨c3_, List.forall_mem_cons.mpr ⟨c4_, List.forall_mem_cons.mpr ⟨c5_, List.forall_mem_cons.mpr ⟨c6_, List.forall_mem_cons.mpr ⟨c7_, List.forall_mem_cons.mpr ⟨c8_, List.forall_mem_cons.mpr ⟨c9_, List.forall_mem_cons.mpr ⟨c10_, List.forall_mem_nil _⟩⟩⟩⟩⟩⟩⟩⟩⟩⟩⟩)) (by decide) ?_
  refine xr_iconst (pc := 117) dX6_has_117 xci_m1 ?_
  rw [kr _ (Option.some.inj hf).symm]
  exact xr_iret (pc := 118) dX6_has_118 rfl
theorem met_f_t_has (l : Launch) {D : TD} {m : Nat} {x1 : Int32} {τ : TS} {o_ : (Int32 × TS)} (hf : f_t_has x1 τ = some o_) : xMet (wT D m) l yX6_has (ws_ yX6_has cX6_has 2 (some .int)) 8 480 0 0 [.ref m, .int x1] τ (some (.int o_.1), o_.2) :=
  xMet_of (by decide) (Nat.le_of_ble_eq_true rfl) KT_moved (fun _ _ => trivial) (fun K _ _ _ => ok_f_t_has hf (fun _ h => by rw [h]))
abbrev mX6_isLord : xM := (cX6_isLord, 2, RX6, 1, 60, (some .boolean), "isLord")
def f_t_isLord (x1 : Int32) (τ : TS) : Option (Int32 × TS) :=
  xbd (f_t_lordMany τ) fun r1 τ1 =>
  xbd (f_t_isIn x1.toInt64 0 ((r1 - 1).toInt64) τ1) fun r2 τ2 =>
  some ((r2 &&& 1, τ2))
theorem ok_f_t_isLord {D : TD} {m : Nat} {K : xK} {Z : Option Value × TS} {x1 : Int32} {τ : TS} {o_ : (Int32 × TS)} (hf : f_t_isLord x1 τ = some o_) (kr : ∀ r_ : (Int32 × TS), o_ = r_ → Z = (some (.int r_.1), r_.2)) : xV (wT D m) K mX6_isLord (xQ (wT D m) K Z) τ 0 [(0, .ref m), (1, .int x1)] [] := by
  unfold f_t_isLord at hf
  refine xr_iload_n (pc := 0) 1 dX6_isLord_0 rfl rfl ?_
  refine xr_i2l (pc := 1) dX6_isLord_1 ?_
  refine xr_lconst (pc := 2) dX6_isLord_2 (by decide : _ = (0 : Int64)) ?_
  refine xr_aload_n (pc := 3) 0 dX6_isLord_3 rfl rfl ?_
  obtain ⟨r1, τ1, hτ1, hf⟩ := xo_bd hf
  refine call_f_t_lordMany (pc := 4) hτ1 rfl (Nat.le_of_ble_eq_true rfl) (Nat.le_of_ble_eq_true rfl) (Nat.le_of_ble_eq_true rfl) dX6_isLord_4 ?_
  refine xr_iconst (pc := 7) dX6_isLord_7 xci_1 ?_
  refine xr_isub (pc := 8) dX6_isLord_8 ?_
  refine xr_i2l (pc := 9) dX6_isLord_9 ?_
  obtain ⟨r2, τ2, hτ2, hf⟩ := xo_bd hf
  refine call_f_t_isIn (pc := 10) hτ2 rfl (Nat.le_of_ble_eq_true rfl) (Nat.le_of_ble_eq_true rfl) (Nat.le_of_ble_eq_true rfl) dX6_isLord_10 ?_
  rw [kr _ (Option.some.inj hf).symm]
  exact xr_zret (pc := 13) dX6_isLord_13 rfl rfl
theorem met_f_t_isLord (l : Launch) {D : TD} {m : Nat} {x1 : Int32} {τ : TS} {o_ : (Int32 × TS)} (hf : f_t_isLord x1 τ = some o_) : xMet (wT D m) l yX6_isLord (ws_ yX6_isLord cX6_isLord 2 (some .boolean)) 1 60 0 0 [.ref m, .int x1] τ (some (.int o_.1), o_.2) :=
  xMet_of (by decide) (Nat.le_of_ble_eq_true rfl) KT_moved (fun _ _ => trivial) (fun K _ _ _ => ok_f_t_isLord hf (fun _ h => by rw [h]))
theorem hd_f_t_isLord : yX6_isLord.cls = RX6 ∧ yX6_isLord.cls ≠ "java/lang/invoke/MethodHandle" ∧ yX6_isLord.cls ≠ "java/lang/invoke/VarHandle" ∧ (parseMethodDescriptor yX6_isLord.desc).map (fun d => d.parameters.length) = some 1 := by decide +kernel
theorem call_f_t_isLord {D : TD} {m : Nat} {K : xK} {M : xM} {Q : State → Prop} {x1 : Int32} {τ : TS} {pc : Nat} {loc : List (Nat × Value)} {st : List Value} {r : Int32} {τ1 : TS} (hf : f_t_isLord x1 τ = some (r, τ1)) (ho : M.2.2.1 = RX6) (hfr : 2 ≤ M.2.2.2.1) (hlo : 81 ≤ M.2.2.2.2.1) (hcat : (st.map fun v => v.category).sum ≤ 8) (d : decode M.1 pc = .ok (.invokevirtual 585, 3)) (k : xV (wT D m) K M Q τ1 (pc + 3) loc (.int r :: st)) : xV (wT D m) K M Q τ pc loc (.int x1 :: .ref m :: st) :=
  xr_callV (As := [.int x1]) (rest := st) (met_f_t_isLord K.2.1 hf) (lw_V q2437 q2439 qs128 q186 q2440) hd_f_t_isLord ho hfr hlo rfl (fun H hR hK => t_recv H hR hK) rfl hcat d k
abbrev mX6_letter : xM := (cX6_letter, 8, RX6, 2, 120, (some .int), "letter")
def Bt_letter_37 (x2 : Int32) (x3 : Int64) (x5 : Int32) (x6 : Int64) (τ : TS) : Option ((Int32 × Int64 × TS) ⊕ ((Int32 × TS))) :=
  if (lg_cmp x6 0) ≤ 0 then
  some (.inr (x5, τ))
  else
  some (.inl (x5 + 1, x6 / 27, τ))
theorem ok_Bt_letter_37 {D : TD} {m : Nat} {K : xK} {Z : Option Value × TS} {x2 : Int32} {x3 : Int64} {x5 : Int32} {x6 : Int64} {τ : TS} {o_ : ((Int32 × Int64 × TS) ⊕ ((Int32 × TS)))} (hf : Bt_letter_37 x2 x3 x5 x6 τ = some o_) (kc : ∀ s_ : Int32 × Int64 × TS, o_ = .inl s_ → xV (wT D m) K mX6_letter (xQ (wT D m) K Z) s_.2.2 37 [(2, .int x2), (3, .long x3), (5, .int s_.1), (6, .long s_.2.1)] []) (ke0 : ∀ e_ : Int32 × TS, o_ = .inr e_ → xV (wT D m) K mX6_letter (xQ (wT D m) K Z) e_.2 58 [(2, .int x2), (3, .long x3), (5, .int e_.1)] []) : xV (wT D m) K mX6_letter (xQ (wT D m) K Z) τ 37 [(2, .int x2), (3, .long x3), (5, .int x5), (6, .long x6)] [] := by
  unfold Bt_letter_37 at hf
  refine xr_lload (pc := 37) 3 dX6_letter_37 rfl ?_
  refine xr_lconst (pc := 39) dX6_letter_39 (by decide : _ = (0 : Int64)) ?_
  refine xr_lcmp (pc := 40) dX6_letter_40 ?_
  refine xr_if_le (pc := 41) 58 dX6_letter_41 (by decide) (fun c_ => ?_) (fun c_ => ?_)
  · have hf := xo_pos c_ hf
    refine xV_sub [0, 1, 2] rfl ?_
    exact ke0 _ (Option.some.inj hf).symm
  · have hf := xo_neg c_ hf
    refine xr_iinc (pc := 44) (loc' := [(5, .int (x5 + 1)), (2, .int x2), (3, .long x3), (6, .long x6)]) 2 dX6_letter_44 rfl xci_1 (by decide) rfl ?_
    refine xr_lload (pc := 47) 3 dX6_letter_47 rfl ?_
    refine xr_ldc2 (pc := 49) q2236 dX6_letter_49 ?_
    refine xr_ldiv (pc := 52) dX6_letter_52 (by decide) ?_
    refine xr_lstore (pc := 53) (loc' := [(6, .long (x6 / 27)), (5, .int (x5 + 1)), (2, .int x2), (3, .long x3)]) dX6_letter_53 (by decide) rfl ?_
    refine xr_goto (pc := 55) 37 dX6_letter_55 (by decide) ?_
    refine xV_sub [2, 3, 1, 0] rfl ?_
    exact kc _ (Option.some.inj hf).symm
def Bt_letter_72 (x2 : Int32) (x3 : Int64) (x6 : Int32) (τ : TS) : Option ((Int64 × Int32 × TS) ⊕ ((Int64 × TS))) :=
  if x6 ≤ x2 then
  some (.inr (x3, τ))
  else
  some (.inl (x3 / 27, x6 + (-1), τ))
theorem ok_Bt_letter_72 {D : TD} {m : Nat} {K : xK} {Z : Option Value × TS} {x2 : Int32} {x3 : Int64} {x6 : Int32} {τ : TS} {o_ : ((Int64 × Int32 × TS) ⊕ ((Int64 × TS)))} (hf : Bt_letter_72 x2 x3 x6 τ = some o_) (kc : ∀ s_ : Int64 × Int32 × TS, o_ = .inl s_ → xV (wT D m) K mX6_letter (xQ (wT D m) K Z) s_.2.2 72 [(2, .int x2), (3, .long s_.1), (6, .int s_.2.1)] []) (ke0 : ∀ e_ : Int64 × TS, o_ = .inr e_ → xV (wT D m) K mX6_letter (xQ (wT D m) K Z) e_.2 90 [(3, .long e_.1)] []) : xV (wT D m) K mX6_letter (xQ (wT D m) K Z) τ 72 [(2, .int x2), (3, .long x3), (6, .int x6)] [] := by
  unfold Bt_letter_72 at hf
  refine xr_iload (pc := 72) 2 dX6_letter_72 rfl ?_
  refine xr_iload_n (pc := 74) 0 dX6_letter_74 rfl rfl ?_
  refine xr_icmp_le (pc := 75) 90 dX6_letter_75 (by decide) (fun c_ => ?_) (fun c_ => ?_)
  · have hf := xo_pos c_ hf
    refine xV_sub [1] rfl ?_
    exact ke0 _ (Option.some.inj hf).symm
  · have hf := xo_neg c_ hf
    refine xr_lload_n (pc := 78) 1 dX6_letter_78 rfl rfl ?_
    refine xr_ldc2 (pc := 79) q2236 dX6_letter_79 ?_
    refine xr_ldiv (pc := 82) dX6_letter_82 (by decide) ?_
    refine xr_lstore_n (pc := 83) (loc' := [(3, .long (x3 / 27)), (2, .int x2), (6, .int x6)]) dX6_letter_83 rfl (by decide) rfl ?_
    refine xr_iinc (pc := 84) (loc' := [(6, .int (x6 + (-1))), (3, .long (x3 / 27)), (2, .int x2)]) 2 dX6_letter_84 rfl xci_m1 (by decide) rfl ?_
    refine xr_goto (pc := 87) 72 dX6_letter_87 (by decide) ?_
    refine xV_sub [2, 1, 0] rfl ?_
    exact kc _ (Option.some.inj hf).symm
def f_t_letter (x1 : Int32) (x2 : Int32) (τ : TS) : Option (Int32 × TS) :=
  xbd (f_t_isLord x1 τ) fun r1 τ1 =>
  if r1 = 0 then
  some (((-1), τ1))
  else
  xbd (f_t_isIn x2.toInt64 0 5 τ1) fun r2 τ2 =>
  if r2 = 0 then
  some (((-1), τ2))
  else
  if xin (5 + x1) 10 = true then
  (itr (fun s_ : Int32 × Int64 × TS => Bt_letter_37 x2 (tM τ2 48 (5 + x1).toNatClampNeg) s_.1 s_.2.1 s_.2.2) 4096 (0, tM τ2 48 (5 + x1).toNatClampNeg, τ2)).bind fun b3 =>
  if x2 < b3.1 then
  (itr (fun s_ : Int64 × Int32 × TS => Bt_letter_72 x2 s_.1 s_.2.1 s_.2.2) 4096 (tM τ2 48 (5 + x1).toNatClampNeg, b3.1 - 1, b3.2)).bind fun b4 =>
  some (((b4.1 - b4.1 / 27 * 27).toInt32, b4.2))
  else
  some ((0, b3.2))
  else none
theorem ok_f_t_letter {D : TD} {m : Nat} {K : xK} {Z : Option Value × TS} {x1 : Int32} {x2 : Int32} {τ : TS} {o_ : (Int32 × TS)} (hf : f_t_letter x1 x2 τ = some o_) (kr : ∀ r_ : (Int32 × TS), o_ = r_ → Z = (some (.int r_.1), r_.2)) : xV (wT D m) K mX6_letter (xQ (wT D m) K Z) τ 0 [(0, .ref m), (1, .int x1), (2, .int x2)] [] := by
  unfold f_t_letter at hf
  refine xr_aload_n (pc := 0) 0 dX6_letter_0 rfl rfl ?_
  refine xr_iload_n (pc := 1) 1 dX6_letter_1 rfl rfl ?_
  obtain ⟨r1, τ1, hτ1, hf⟩ := xo_bd hf
  refine call_f_t_isLord (pc := 2) hτ1 rfl (Nat.le_of_ble_eq_true rfl) (Nat.le_of_ble_eq_true rfl) (Nat.le_of_ble_eq_true rfl) dX6_letter_2 ?_
  refine xr_if_eq (pc := 5) 20 dX6_letter_5 (by decide) (fun c_ => ?_) (fun c_ => ?_)
  · have hf := xo_pos c_ hf
    refine xr_iconst (pc := 20) dX6_letter_20 xci_m1 ?_
    rw [kr _ (Option.some.inj hf).symm]
    exact xr_iret (pc := 21) dX6_letter_21 rfl
  · have hf := xo_neg c_ hf
    refine xr_iload_n (pc := 8) 2 dX6_letter_8 rfl rfl ?_
    refine xr_i2l (pc := 9) dX6_letter_9 ?_
    refine xr_lconst (pc := 10) dX6_letter_10 (by decide : _ = (0 : Int64)) ?_
    refine xr_ldc2 (pc := 11) q2441 dX6_letter_11 ?_
    obtain ⟨r2, τ2, hτ2, hf⟩ := xo_bd hf
    refine call_f_t_isIn (pc := 14) hτ2 rfl (Nat.le_of_ble_eq_true rfl) (Nat.le_of_ble_eq_true rfl) (Nat.le_of_ble_eq_true rfl) dX6_letter_14 ?_
    refine xr_if_ne (pc := 17) 22 dX6_letter_17 (by decide) (fun c_ => ?_) (fun c_ => ?_)
    · have hf := xo_pos c_ hf
      refine xr_iconst (pc := 20) dX6_letter_20 xci_m1 ?_
      rw [kr _ (Option.some.inj hf).symm]
      exact xr_iret (pc := 21) dX6_letter_21 rfl
    · have hf := xo_neg c_ hf
      refine xr_aload_n (pc := 22) 0 dX6_letter_22 rfl rfl ?_
      refine xt_getA (pc := 23) 48 (by decide) q1794 rfl rfl rfl dX6_letter_23 ?_
      refine xr_iconst (pc := 26) dX6_letter_26 xci_5 ?_
      refine xr_iload_n (pc := 27) 1 dX6_letter_27 rfl rfl ?_
      refine xr_iadd (pc := 28) dX6_letter_28 ?_
      obtain ⟨hi_, hf⟩ := xo_if hf
      refine xt_lald (pc := 29) 48 rfl rfl hi_ dX6_letter_29 ?_
      refine xr_lstore_n (pc := 30) (loc' := [(3, .long (tM τ2 48 (5 + x1).toNatClampNeg)), (0, .ref m), (1, .int x1), (2, .int x2)]) dX6_letter_30 rfl (by decide) rfl ?_
      refine xr_iconst (pc := 31) dX6_letter_31 xci_0 ?_
      refine xr_istore (pc := 32) (loc' := [(5, .int 0), (3, .long (tM τ2 48 (5 + x1).toNatClampNeg)), (0, .ref m), (1, .int x1), (2, .int x2)]) dX6_letter_32 (by decide) rfl ?_
      refine xr_lload_n (pc := 34) 1 dX6_letter_34 rfl rfl ?_
      refine xr_lstore (pc := 35) (loc' := [(6, .long (tM τ2 48 (5 + x1).toNatClampNeg)), (5, .int 0), (3, .long (tM τ2 48 (5 + x1).toNatClampNeg)), (0, .ref m), (1, .int x1), (2, .int x2)]) dX6_letter_35 (by decide) rfl ?_
      refine xV_sub [5, 2, 1, 0] rfl ?_
      obtain ⟨b3, hb3, hf⟩ := xo_bind hf
      refine itr_rule (P := fun s_ : Int32 × Int64 × TS => xV (wT D m) K mX6_letter (xQ (wT D m) K Z) s_.2.2 37 [(2, .int x2), (3, .long (tM τ2 48 (5 + x1).toNatClampNeg)), (5, .int s_.1), (6, .long s_.2.1)] []) (fun s_ o_ hB_ hc_ he_ => ok_Bt_letter_37 hB_ hc_ (fun e_ h_ => ?_)) 4096 _ hb3
      · have e9_ := he_ _ h_
        rw [e9_]
        refine xr_iload_n (pc := 58) 0 dX6_letter_58 rfl rfl ?_
        refine xr_iload (pc := 59) 2 dX6_letter_59 rfl ?_
        refine xr_icmp_lt (pc := 61) 66 dX6_letter_61 (by decide) (fun c_ => ?_) (fun c_ => ?_)
        · have hf := xo_pos c_ hf
          refine xr_iload (pc := 66) 2 dX6_letter_66 rfl ?_
          refine xr_iconst (pc := 68) dX6_letter_68 xci_1 ?_
          refine xr_isub (pc := 69) dX6_letter_69 ?_
          refine xr_istore (pc := 70) (loc' := [(6, .int (b3.1 - 1)), (2, .int x2), (3, .long (tM τ2 48 (5 + x1).toNatClampNeg)), (5, .int b3.1)]) dX6_letter_70 (by decide) rfl ?_
          refine xV_sub [1, 2, 0] rfl ?_
          obtain ⟨b4, hb4, hf⟩ := xo_bind hf
          refine itr_rule (P := fun s_ : Int64 × Int32 × TS => xV (wT D m) K mX6_letter (xQ (wT D m) K Z) s_.2.2 72 [(2, .int x2), (3, .long s_.1), (6, .int s_.2.1)] []) (fun s_ o_ hB_ hc_ he_ => ok_Bt_letter_72 hB_ hc_ (fun e_ h_ => ?_)) 4096 _ hb4
          · have e9_ := he_ _ h_
            rw [e9_]
            refine xr_lload_n (pc := 90) 0 dX6_letter_90 rfl rfl ?_
            refine xr_ldc2 (pc := 91) q2236 dX6_letter_91 ?_
            refine xr_lrem (pc := 94) dX6_letter_94 (by decide) ?_
            refine xr_l2i (pc := 95) dX6_letter_95 ?_
            rw [kr _ (Option.some.inj hf).symm]
            exact xr_iret (pc := 96) dX6_letter_96 rfl
        · have hf := xo_neg c_ hf
          refine xr_iconst (pc := 64) dX6_letter_64 xci_0 ?_
          rw [kr _ (Option.some.inj hf).symm]
          exact xr_iret (pc := 65) dX6_letter_65 rfl
theorem met_f_t_letter (l : Launch) {D : TD} {m : Nat} {x1 : Int32} {x2 : Int32} {τ : TS} {o_ : (Int32 × TS)} (hf : f_t_letter x1 x2 τ = some o_) : xMet (wT D m) l yX6_letter (ws_ yX6_letter cX6_letter 8 (some .int)) 2 120 0 0 [.ref m, .int x1, .int x2] τ (some (.int o_.1), o_.2) :=
  xMet_of (by decide) (Nat.le_of_ble_eq_true rfl) KT_moved (fun _ _ => trivial) (fun K _ _ _ => ok_f_t_letter hf (fun _ h => by rw [h]))
abbrev mX6_isColumn : xM := (cX6_isColumn, 3, RX6, 1, 60, (some .boolean), "isColumn")
def Jt_isColumn_26 (τ : TS) : Option (Int32 × TS) :=
  some ((0, τ))
theorem ok_Jt_isColumn_26 {D : TD} {m : Nat} {K : xK} {Z : Option Value × TS} {τ : TS} {o_ : (Int32 × TS)} (hf : Jt_isColumn_26 τ = some o_) (kr : ∀ r_ : (Int32 × TS), o_ = r_ → Z = (some (.int r_.1), r_.2)) : xV (wT D m) K mX6_isColumn (xQ (wT D m) K Z) τ 26 [] [] := by
  unfold Jt_isColumn_26 at hf
  refine xr_iconst (pc := 26) dX6_isColumn_26 xci_0 ?_
  rw [kr _ (Option.some.inj hf).symm]
  exact xr_zret (pc := 27) dX6_isColumn_27 rfl xz_0
def f_t_isColumn (x1 : Int64) (τ : TS) : Option (Int32 × TS) :=
  if (tI τ 60) = 0 then
  Jt_isColumn_26 τ
  else
  xbd (f_t_columnMany τ) fun r1 τ1 =>
  xbd (f_t_isIn x1 0 ((r1 - 1).toInt64) τ1) fun r2 τ2 =>
  if r2 = 0 then
  Jt_isColumn_26 τ2
  else
  some ((1, τ2))
theorem ok_f_t_isColumn {D : TD} {m : Nat} {K : xK} {Z : Option Value × TS} {x1 : Int64} {τ : TS} {o_ : (Int32 × TS)} (hf : f_t_isColumn x1 τ = some o_) (kr : ∀ r_ : (Int32 × TS), o_ = r_ → Z = (some (.int r_.1), r_.2)) : xV (wT D m) K mX6_isColumn (xQ (wT D m) K Z) τ 0 [(0, .ref m), (1, .long x1)] [] := by
  unfold f_t_isColumn at hf
  refine xr_aload_n (pc := 0) 0 dX6_isColumn_0 rfl rfl ?_
  refine xt_getI (pc := 1) 60 (by decide) q1806 rfl rfl rfl dX6_isColumn_1 ?_
  refine xr_if_eq (pc := 4) 26 dX6_isColumn_4 (by decide) (fun c_ => ?_) (fun c_ => ?_)
  · have hf := xo_pos c_ hf
    refine xV_sub [] rfl ?_
    exact ok_Jt_isColumn_26 hf kr
  · have hf := xo_neg c_ hf
    refine xr_lload_n (pc := 7) 1 dX6_isColumn_7 rfl rfl ?_
    refine xr_lconst (pc := 8) dX6_isColumn_8 (by decide : _ = (0 : Int64)) ?_
    refine xr_aload_n (pc := 9) 0 dX6_isColumn_9 rfl rfl ?_
    obtain ⟨r1, τ1, hτ1, hf⟩ := xo_bd hf
    refine call_f_t_columnMany (pc := 10) hτ1 rfl (Nat.le_of_ble_eq_true rfl) (Nat.le_of_ble_eq_true rfl) (Nat.le_of_ble_eq_true rfl) dX6_isColumn_10 ?_
    refine xr_iconst (pc := 13) dX6_isColumn_13 xci_1 ?_
    refine xr_isub (pc := 14) dX6_isColumn_14 ?_
    refine xr_i2l (pc := 15) dX6_isColumn_15 ?_
    obtain ⟨r2, τ2, hτ2, hf⟩ := xo_bd hf
    refine call_f_t_isIn (pc := 16) hτ2 rfl (Nat.le_of_ble_eq_true rfl) (Nat.le_of_ble_eq_true rfl) (Nat.le_of_ble_eq_true rfl) dX6_isColumn_16 ?_
    refine xr_if_eq (pc := 19) 26 dX6_isColumn_19 (by decide) (fun c_ => ?_) (fun c_ => ?_)
    · have hf := xo_pos c_ hf
      refine xV_sub [] rfl ?_
      exact ok_Jt_isColumn_26 hf kr
    · have hf := xo_neg c_ hf
      refine xr_iconst (pc := 22) dX6_isColumn_22 xci_1 ?_
      refine xr_goto (pc := 23) 27 dX6_isColumn_23 (by decide) ?_
      rw [kr _ (Option.some.inj hf).symm]
      exact xr_zret (pc := 27) dX6_isColumn_27 rfl xz_1
theorem met_f_t_isColumn (l : Launch) {D : TD} {m : Nat} {x1 : Int64} {τ : TS} {o_ : (Int32 × TS)} (hf : f_t_isColumn x1 τ = some o_) : xMet (wT D m) l yX6_isColumn (ws_ yX6_isColumn cX6_isColumn 3 (some .boolean)) 1 60 0 0 [.ref m, .long x1] τ (some (.int o_.1), o_.2) :=
  xMet_of (by decide) (Nat.le_of_ble_eq_true rfl) KT_moved (fun _ _ => trivial) (fun K _ _ _ => ok_f_t_isColumn hf (fun _ h => by rw [h]))
theorem hd_f_t_isColumn : yX6_isColumn.cls = RX6 ∧ yX6_isColumn.cls ≠ "java/lang/invoke/MethodHandle" ∧ yX6_isColumn.cls ≠ "java/lang/invoke/VarHandle" ∧ (parseMethodDescriptor yX6_isColumn.desc).map (fun d => d.parameters.length) = some 1 := by decide +kernel
theorem call_f_t_isColumn {D : TD} {m : Nat} {K : xK} {M : xM} {Q : State → Prop} {x1 : Int64} {τ : TS} {pc : Nat} {loc : List (Nat × Value)} {st : List Value} {r : Int32} {τ1 : TS} (hf : f_t_isColumn x1 τ = some (r, τ1)) (ho : M.2.2.1 = RX6) (hfr : 2 ≤ M.2.2.2.1) (hlo : 82 ≤ M.2.2.2.2.1) (hcat : (st.map fun v => v.category).sum ≤ 8) (d : decode M.1 pc = .ok (.invokevirtual 459, 3)) (k : xV (wT D m) K M Q τ1 (pc + 3) loc (.int r :: st)) : xV (wT D m) K M Q τ pc loc (.long x1 :: .ref m :: st) :=
  xr_callV (As := [.long x1]) (rest := st) (met_f_t_isColumn K.2.1 hf) (lw_V q2446 q2448 qs129 q186 q2449) hd_f_t_isColumn ho hfr hlo rfl (fun H hR hK => t_recv H hR hK) rfl hcat d k
abbrev mX6_turnOf : xM := (cX6_turnOf, 2, RX6, 3, 180, (some .int), "turnOf")
def f_t_turnOf (x1 : Int32) (τ : TS) : Option (Int32 × TS) :=
  xbd (f_t_beforeOf x1 τ) fun r1 τ1 =>
  xbd (f_t_rowOf x1 τ1) fun r2 τ2 =>
  xbd (f_t_behindOf x1 τ2) fun r3 τ3 =>
  xbd (f_t_turnBy x1 r1 r2 r3 τ3) fun r4 τ4 =>
  some ((r4, τ4))
theorem ok_f_t_turnOf {D : TD} {m : Nat} {K : xK} {Z : Option Value × TS} {x1 : Int32} {τ : TS} {o_ : (Int32 × TS)} (hf : f_t_turnOf x1 τ = some o_) (kr : ∀ r_ : (Int32 × TS), o_ = r_ → Z = (some (.int r_.1), r_.2)) : xV (wT D m) K mX6_turnOf (xQ (wT D m) K Z) τ 0 [(0, .ref m), (1, .int x1)] [] := by
  unfold f_t_turnOf at hf
  refine xr_aload_n (pc := 0) 0 dX6_turnOf_0 rfl rfl ?_
  refine xr_iload_n (pc := 1) 1 dX6_turnOf_1 rfl rfl ?_
  refine xr_aload_n (pc := 2) 0 dX6_turnOf_2 rfl rfl ?_
  refine xr_iload_n (pc := 3) 1 dX6_turnOf_3 rfl rfl ?_
  obtain ⟨r1, τ1, hτ1, hf⟩ := xo_bd hf
  refine call_f_t_beforeOf (pc := 4) hτ1 rfl (Nat.le_of_ble_eq_true rfl) (Nat.le_of_ble_eq_true rfl) (Nat.le_of_ble_eq_true rfl) dX6_turnOf_4 ?_
  refine xr_aload_n (pc := 7) 0 dX6_turnOf_7 rfl rfl ?_
  refine xr_iload_n (pc := 8) 1 dX6_turnOf_8 rfl rfl ?_
  obtain ⟨r2, τ2, hτ2, hf⟩ := xo_bd hf
  refine call_f_t_rowOf (pc := 9) hτ2 rfl (Nat.le_of_ble_eq_true rfl) (Nat.le_of_ble_eq_true rfl) (Nat.le_of_ble_eq_true rfl) dX6_turnOf_9 ?_
  refine xr_aload_n (pc := 12) 0 dX6_turnOf_12 rfl rfl ?_
  refine xr_iload_n (pc := 13) 1 dX6_turnOf_13 rfl rfl ?_
  obtain ⟨r3, τ3, hτ3, hf⟩ := xo_bd hf
  refine call_f_t_behindOf (pc := 14) hτ3 rfl (Nat.le_of_ble_eq_true rfl) (Nat.le_of_ble_eq_true rfl) (Nat.le_of_ble_eq_true rfl) dX6_turnOf_14 ?_
  obtain ⟨r4, τ4, hτ4, hf⟩ := xo_bd hf
  refine call_f_t_turnBy (pc := 17) hτ4 rfl (Nat.le_of_ble_eq_true rfl) (Nat.le_of_ble_eq_true rfl) (Nat.le_of_ble_eq_true rfl) dX6_turnOf_17 ?_
  rw [kr _ (Option.some.inj hf).symm]
  exact xr_iret (pc := 20) dX6_turnOf_20 rfl
theorem met_f_t_turnOf (l : Launch) {D : TD} {m : Nat} {x1 : Int32} {τ : TS} {o_ : (Int32 × TS)} (hf : f_t_turnOf x1 τ = some o_) : xMet (wT D m) l yX6_turnOf (ws_ yX6_turnOf cX6_turnOf 2 (some .int)) 3 180 0 0 [.ref m, .int x1] τ (some (.int o_.1), o_.2) :=
  xMet_of (by decide) (Nat.le_of_ble_eq_true rfl) KT_moved (fun _ _ => trivial) (fun K _ _ _ => ok_f_t_turnOf hf (fun _ h => by rw [h]))
theorem hd_f_t_turnOf : yX6_turnOf.cls = RX6 ∧ yX6_turnOf.cls ≠ "java/lang/invoke/MethodHandle" ∧ yX6_turnOf.cls ≠ "java/lang/invoke/VarHandle" ∧ (parseMethodDescriptor yX6_turnOf.desc).map (fun d => d.parameters.length) = some 1 := by decide +kernel
theorem call_f_t_turnOf {D : TD} {m : Nat} {K : xK} {M : xM} {Q : State → Prop} {x1 : Int32} {τ : TS} {pc : Nat} {loc : List (Nat × Value)} {st : List Value} {r : Int32} {τ1 : TS} (hf : f_t_turnOf x1 τ = some (r, τ1)) (ho : M.2.2.1 = RX6) (hfr : 4 ≤ M.2.2.2.1) (hlo : 201 ≤ M.2.2.2.2.1) (hcat : (st.map fun v => v.category).sum ≤ 8) (d : decode M.1 pc = .ok (.invokevirtual 516, 3)) (k : xV (wT D m) K M Q τ1 (pc + 3) loc (.int r :: st)) : xV (wT D m) K M Q τ pc loc (.int x1 :: .ref m :: st) :=
  xr_callV (As := [.int x1]) (rest := st) (met_f_t_turnOf K.2.1 hf) (lw_V q2450 q2452 qs130 q186 q2453) hd_f_t_turnOf ho hfr hlo rfl (fun H hR hK => t_recv H hR hK) rfl hcat d k
abbrev mX6_column : xM := (cX6_column, 3, RX6, 7, 420, (some .int), "column")
def f_t_column (x1 : Int32) (x2 : Int32) (τ : TS) : Option (Int32 × TS) :=
  xbd (f_t_isColumn x1.toInt64 τ) fun r1 τ1 =>
  if r1 = 0 then
  some (((-1), τ1))
  else
  if x2 = 0 then
  xbd (f_t_rowOf x1 τ1) fun r5 τ5 =>
  some ((r5, τ5))
  else
  if x2 = 1 then
  xbd (f_t_turnOf x1 τ1) fun r4 τ4 =>
  some ((r4, τ4))
  else
  if x2 = 2 then
  xbd (f_t_isBend x1 τ1) fun r3 τ3 =>
  if r3 = 0 then
  some ((0, τ3))
  else
  some ((1, τ3))
  else
  if x2 = 3 then
  xbd (f_t_payOf x1 τ1) fun r2 τ2 =>
  some ((r2, τ2))
  else
  some (((-1), τ1))
theorem ok_f_t_column {D : TD} {m : Nat} {K : xK} {Z : Option Value × TS} {x1 : Int32} {x2 : Int32} {τ : TS} {o_ : (Int32 × TS)} (hf : f_t_column x1 x2 τ = some o_) (kr : ∀ r_ : (Int32 × TS), o_ = r_ → Z = (some (.int r_.1), r_.2)) : xV (wT D m) K mX6_column (xQ (wT D m) K Z) τ 0 [(0, .ref m), (1, .int x1), (2, .int x2)] [] := by
  unfold f_t_column at hf
  refine xr_aload_n (pc := 0) 0 dX6_column_0 rfl rfl ?_
  refine xr_iload_n (pc := 1) 1 dX6_column_1 rfl rfl ?_
  refine xr_i2l (pc := 2) dX6_column_2 ?_
  obtain ⟨r1, τ1, hτ1, hf⟩ := xo_bd hf
  refine call_f_t_isColumn (pc := 3) hτ1 rfl (Nat.le_of_ble_eq_true rfl) (Nat.le_of_ble_eq_true rfl) (Nat.le_of_ble_eq_true rfl) dX6_column_3 ?_
  refine xr_if_ne (pc := 6) 11 dX6_column_6 (by decide) (fun c_ => ?_) (fun c_ => ?_)
  · have hf := xo_pos c_ hf
    refine xr_iconst (pc := 9) dX6_column_9 xci_m1 ?_
    rw [kr _ (Option.some.inj hf).symm]
    exact xr_iret (pc := 10) dX6_column_10 rfl
  · have hf := xo_neg c_ hf
    refine xr_iload_n (pc := 11) 2 dX6_column_11 rfl rfl ?_
    by_cases c0_ : x2 = 0
    · have hf := xo_pos c0_ hf
      refine xr_tsw_in (pc := 12) (v := 0) (off := 32) 44 dX6_column_12 c0_ (by decide) (by decide +kernel) (by decide) ?_
      refine xr_aload_n (pc := 44) 0 dX6_column_44 rfl rfl ?_
      refine xr_iload_n (pc := 45) 1 dX6_column_45 rfl rfl ?_
      obtain ⟨r5, τ5, hτ5, hf⟩ := xo_bd hf
      refine call_f_t_rowOf (pc := 46) hτ5 rfl (Nat.le_of_ble_eq_true rfl) (Nat.le_of_ble_eq_true rfl) (Nat.le_of_ble_eq_true rfl) dX6_column_46 ?_
      rw [kr _ (Option.some.inj hf).symm]
      exact xr_iret (pc := 49) dX6_column_49 rfl
    have hf := xo_neg c0_ hf
    by_cases c1_ : x2 = 1
    · have hf := xo_pos c1_ hf
      refine xr_tsw_in (pc := 12) (v := 1) (off := 38) 50 dX6_column_12 c1_ (by decide) (by decide +kernel) (by decide) ?_
      refine xr_aload_n (pc := 50) 0 dX6_column_50 rfl rfl ?_
      refine xr_iload_n (pc := 51) 1 dX6_column_51 rfl rfl ?_
      obtain ⟨r4, τ4, hτ4, hf⟩ := xo_bd hf
      refine call_f_t_turnOf (pc := 52) hτ4 rfl (Nat.le_of_ble_eq_true rfl) (Nat.le_of_ble_eq_true rfl) (Nat.le_of_ble_eq_true rfl) dX6_column_52 ?_
      rw [kr _ (Option.some.inj hf).symm]
      exact xr_iret (pc := 55) dX6_column_55 rfl
    have hf := xo_neg c1_ hf
    by_cases c2_ : x2 = 2
    · have hf := xo_pos c2_ hf
      refine xr_tsw_in (pc := 12) (v := 2) (off := 44) 56 dX6_column_12 c2_ (by decide) (by decide +kernel) (by decide) ?_
      refine xr_aload_n (pc := 56) 0 dX6_column_56 rfl rfl ?_
      refine xr_iload_n (pc := 57) 1 dX6_column_57 rfl rfl ?_
      obtain ⟨r3, τ3, hτ3, hf⟩ := xo_bd hf
      refine call_f_t_isBend (pc := 58) hτ3 rfl (Nat.le_of_ble_eq_true rfl) (Nat.le_of_ble_eq_true rfl) (Nat.le_of_ble_eq_true rfl) dX6_column_58 ?_
      refine xr_if_eq (pc := 61) 68 dX6_column_61 (by decide) (fun c_ => ?_) (fun c_ => ?_)
      · have hf := xo_pos c_ hf
        refine xr_iconst (pc := 68) dX6_column_68 xci_0 ?_
        rw [kr _ (Option.some.inj hf).symm]
        exact xr_iret (pc := 69) dX6_column_69 rfl
      · have hf := xo_neg c_ hf
        refine xr_iconst (pc := 64) dX6_column_64 xci_1 ?_
        refine xr_goto (pc := 65) 69 dX6_column_65 (by decide) ?_
        rw [kr _ (Option.some.inj hf).symm]
        exact xr_iret (pc := 69) dX6_column_69 rfl
    have hf := xo_neg c2_ hf
    by_cases c3_ : x2 = 3
    · have hf := xo_pos c3_ hf
      refine xr_tsw_in (pc := 12) (v := 3) (off := 58) 70 dX6_column_12 c3_ (by decide) (by decide +kernel) (by decide) ?_
      refine xr_aload_n (pc := 70) 0 dX6_column_70 rfl rfl ?_
      refine xr_iload_n (pc := 71) 1 dX6_column_71 rfl rfl ?_
      obtain ⟨r2, τ2, hτ2, hf⟩ := xo_bd hf
      refine call_f_t_payOf (pc := 72) hτ2 rfl (Nat.le_of_ble_eq_true rfl) (Nat.le_of_ble_eq_true rfl) (Nat.le_of_ble_eq_true rfl) dX6_column_72 ?_
      rw [kr _ (Option.some.inj hf).symm]
      exact xr_iret (pc := 75) dX6_column_75 rfl
    have hf := xo_neg c3_ hf
    refine xr_tsw_out (pc := 12) 76 dX6_column_12 (xsw_out 0 3 [0, 1, 2, 3] (by decide +kernel) (List.forall_mem_cons.mpr ⟨c0_, List.forall_mem_cons.mpr ⟨c1_, List.forall_mem_cons.mpr ⟨c2_, List.forall_mem_cons.mpr ⟨c3_, List.forall_mem_nil _⟩⟩⟩⟩)) (by decide) ?_
    refine xr_iconst (pc := 76) dX6_column_76 xci_m1 ?_
    rw [kr _ (Option.some.inj hf).symm]
    exact xr_iret (pc := 77) dX6_column_77 rfl
theorem met_f_t_column (l : Launch) {D : TD} {m : Nat} {x1 : Int32} {x2 : Int32} {τ : TS} {o_ : (Int32 × TS)} (hf : f_t_column x1 x2 τ = some o_) : xMet (wT D m) l yX6_column (ws_ yX6_column cX6_column 3 (some .int)) 7 420 0 0 [.ref m, .int x1, .int x2] τ (some (.int o_.1), o_.2) :=
  xMet_of (by decide) (Nat.le_of_ble_eq_true rfl) KT_moved (fun _ _ => trivial) (fun K _ _ _ => ok_f_t_column hf (fun _ h => by rw [h]))
abbrev mX6_rowsMany : xM := (cX6_rowsMany, 1, RX6, 0, 0, (some .int), "rowsMany")
def f_t_rowsMany (τ : TS) : Option (Int32 × TS) :=
  if xin 4 6 = true then
  some ((tA τ 45 (4 : Int32).toNatClampNeg, τ))
  else none
theorem ok_f_t_rowsMany {D : TD} {m : Nat} {K : xK} {Z : Option Value × TS} {τ : TS} {o_ : (Int32 × TS)} (hf : f_t_rowsMany τ = some o_) (kr : ∀ r_ : (Int32 × TS), o_ = r_ → Z = (some (.int r_.1), r_.2)) : xV (wT D m) K mX6_rowsMany (xQ (wT D m) K Z) τ 0 [(0, .ref m)] [] := by
  unfold f_t_rowsMany at hf
  refine xr_aload_n (pc := 0) 0 dX6_rowsMany_0 rfl rfl ?_
  refine xt_getA (pc := 1) 45 (by decide) q1791 rfl rfl rfl dX6_rowsMany_1 ?_
  refine xr_iconst (pc := 4) dX6_rowsMany_4 xci_4 ?_
  obtain ⟨hi_, hf⟩ := xo_if hf
  refine xt_iald (pc := 5) 45 rfl rfl hi_ dX6_rowsMany_5 ?_
  rw [kr _ (Option.some.inj hf).symm]
  exact xr_iret (pc := 6) dX6_rowsMany_6 rfl
theorem met_f_t_rowsMany (l : Launch) {D : TD} {m : Nat} {τ : TS} {o_ : (Int32 × TS)} (hf : f_t_rowsMany τ = some o_) : xMet (wT D m) l yX6_rowsMany (ws_ yX6_rowsMany cX6_rowsMany 1 (some .int)) 0 0 0 0 [.ref m] τ (some (.int o_.1), o_.2) :=
  xMet_of (by decide) (Nat.le_of_ble_eq_true rfl) KT_moved (fun _ _ => trivial) (fun K _ _ _ => ok_f_t_rowsMany hf (fun _ h => by rw [h]))
theorem hd_f_t_rowsMany : yX6_rowsMany.cls = RX6 ∧ yX6_rowsMany.cls ≠ "java/lang/invoke/MethodHandle" ∧ yX6_rowsMany.cls ≠ "java/lang/invoke/VarHandle" ∧ (parseMethodDescriptor yX6_rowsMany.desc).map (fun d => d.parameters.length) = some 0 := by decide +kernel
theorem call_f_t_rowsMany {D : TD} {m : Nat} {K : xK} {M : xM} {Q : State → Prop} {τ : TS} {pc : Nat} {loc : List (Nat × Value)} {st : List Value} {r : Int32} {τ1 : TS} (hf : f_t_rowsMany τ = some (r, τ1)) (ho : M.2.2.1 = RX6) (hfr : 1 ≤ M.2.2.2.1) (hlo : 20 ≤ M.2.2.2.2.1) (hcat : (st.map fun v => v.category).sum ≤ 8) (d : decode M.1 pc = .ok (.invokevirtual 463, 3)) (k : xV (wT D m) K M Q τ1 (pc + 3) loc (.int r :: st)) : xV (wT D m) K M Q τ pc loc (.ref m :: st) :=
  xr_callV (As := []) (rest := st) (met_f_t_rowsMany K.2.1 hf) (lw_V q2462 q2464 qs132 q186 q2465) hd_f_t_rowsMany ho hfr hlo rfl (fun H hR hK => t_recv H hR hK) rfl hcat d k
abbrev mX6_isCell : xM := (cX6_isCell, 3, RX6, 2, 120, (some .boolean), "isCell")
def Jt_isCell_29 (τ : TS) : Option (Int32 × TS) :=
  some ((0, τ))
theorem ok_Jt_isCell_29 {D : TD} {m : Nat} {K : xK} {Z : Option Value × TS} {τ : TS} {o_ : (Int32 × TS)} (hf : Jt_isCell_29 τ = some o_) (kr : ∀ r_ : (Int32 × TS), o_ = r_ → Z = (some (.int r_.1), r_.2)) : xV (wT D m) K mX6_isCell (xQ (wT D m) K Z) τ 29 [] [] := by
  unfold Jt_isCell_29 at hf
  refine xr_iconst (pc := 29) dX6_isCell_29 xci_0 ?_
  rw [kr _ (Option.some.inj hf).symm]
  exact xr_zret (pc := 30) dX6_isCell_30 rfl xz_0
def f_t_isCell (x1 : Int32) (x2 : Int32) (τ : TS) : Option (Int32 × TS) :=
  xbd (f_t_isColumn x1.toInt64 τ) fun r1 τ1 =>
  if r1 = 0 then
  Jt_isCell_29 τ1
  else
  xbd (f_t_rowsMany τ1) fun r2 τ2 =>
  xbd (f_t_isIn x2.toInt64 0 ((r2 - 1).toInt64) τ2) fun r3 τ3 =>
  if r3 = 0 then
  Jt_isCell_29 τ3
  else
  some ((1, τ3))
theorem ok_f_t_isCell {D : TD} {m : Nat} {K : xK} {Z : Option Value × TS} {x1 : Int32} {x2 : Int32} {τ : TS} {o_ : (Int32 × TS)} (hf : f_t_isCell x1 x2 τ = some o_) (kr : ∀ r_ : (Int32 × TS), o_ = r_ → Z = (some (.int r_.1), r_.2)) : xV (wT D m) K mX6_isCell (xQ (wT D m) K Z) τ 0 [(0, .ref m), (1, .int x1), (2, .int x2)] [] := by
  unfold f_t_isCell at hf
  refine xr_aload_n (pc := 0) 0 dX6_isCell_0 rfl rfl ?_
  refine xr_iload_n (pc := 1) 1 dX6_isCell_1 rfl rfl ?_
  refine xr_i2l (pc := 2) dX6_isCell_2 ?_
  obtain ⟨r1, τ1, hτ1, hf⟩ := xo_bd hf
  refine call_f_t_isColumn (pc := 3) hτ1 rfl (Nat.le_of_ble_eq_true rfl) (Nat.le_of_ble_eq_true rfl) (Nat.le_of_ble_eq_true rfl) dX6_isCell_3 ?_
  refine xr_if_eq (pc := 6) 29 dX6_isCell_6 (by decide) (fun c_ => ?_) (fun c_ => ?_)
  · have hf := xo_pos c_ hf
    refine xV_sub [] rfl ?_
    exact ok_Jt_isCell_29 hf kr
  · have hf := xo_neg c_ hf
    refine xr_iload_n (pc := 9) 2 dX6_isCell_9 rfl rfl ?_
    refine xr_i2l (pc := 10) dX6_isCell_10 ?_
    refine xr_lconst (pc := 11) dX6_isCell_11 (by decide : _ = (0 : Int64)) ?_
    refine xr_aload_n (pc := 12) 0 dX6_isCell_12 rfl rfl ?_
    obtain ⟨r2, τ2, hτ2, hf⟩ := xo_bd hf
    refine call_f_t_rowsMany (pc := 13) hτ2 rfl (Nat.le_of_ble_eq_true rfl) (Nat.le_of_ble_eq_true rfl) (Nat.le_of_ble_eq_true rfl) dX6_isCell_13 ?_
    refine xr_iconst (pc := 16) dX6_isCell_16 xci_1 ?_
    refine xr_isub (pc := 17) dX6_isCell_17 ?_
    refine xr_i2l (pc := 18) dX6_isCell_18 ?_
    obtain ⟨r3, τ3, hτ3, hf⟩ := xo_bd hf
    refine call_f_t_isIn (pc := 19) hτ3 rfl (Nat.le_of_ble_eq_true rfl) (Nat.le_of_ble_eq_true rfl) (Nat.le_of_ble_eq_true rfl) dX6_isCell_19 ?_
    refine xr_if_eq (pc := 22) 29 dX6_isCell_22 (by decide) (fun c_ => ?_) (fun c_ => ?_)
    · have hf := xo_pos c_ hf
      refine xV_sub [] rfl ?_
      exact ok_Jt_isCell_29 hf kr
    · have hf := xo_neg c_ hf
      refine xr_iconst (pc := 25) dX6_isCell_25 xci_1 ?_
      refine xr_goto (pc := 26) 30 dX6_isCell_26 (by decide) ?_
      rw [kr _ (Option.some.inj hf).symm]
      exact xr_zret (pc := 30) dX6_isCell_30 rfl xz_1
theorem met_f_t_isCell (l : Launch) {D : TD} {m : Nat} {x1 : Int32} {x2 : Int32} {τ : TS} {o_ : (Int32 × TS)} (hf : f_t_isCell x1 x2 τ = some o_) : xMet (wT D m) l yX6_isCell (ws_ yX6_isCell cX6_isCell 3 (some .boolean)) 2 120 0 0 [.ref m, .int x1, .int x2] τ (some (.int o_.1), o_.2) :=
  xMet_of (by decide) (Nat.le_of_ble_eq_true rfl) KT_moved (fun _ _ => trivial) (fun K _ _ _ => ok_f_t_isCell hf (fun _ h => by rw [h]))
theorem hd_f_t_isCell : yX6_isCell.cls = RX6 ∧ yX6_isCell.cls ≠ "java/lang/invoke/MethodHandle" ∧ yX6_isCell.cls ≠ "java/lang/invoke/VarHandle" ∧ (parseMethodDescriptor yX6_isCell.desc).map (fun d => d.parameters.length) = some 2 := by decide +kernel
theorem call_f_t_isCell {D : TD} {m : Nat} {K : xK} {M : xM} {Q : State → Prop} {x1 : Int32} {x2 : Int32} {τ : TS} {pc : Nat} {loc : List (Nat × Value)} {st : List Value} {r : Int32} {τ1 : TS} (hf : f_t_isCell x1 x2 τ = some (r, τ1)) (ho : M.2.2.1 = RX6) (hfr : 3 ≤ M.2.2.2.1) (hlo : 142 ≤ M.2.2.2.2.1) (hcat : (st.map fun v => v.category).sum ≤ 8) (d : decode M.1 pc = .ok (.invokevirtual 590, 3)) (k : xV (wT D m) K M Q τ1 (pc + 3) loc (.int r :: st)) : xV (wT D m) K M Q τ pc loc (.int x2 :: .int x1 :: .ref m :: st) :=
  xr_callV (As := [.int x1, .int x2]) (rest := st) (met_f_t_isCell K.2.1 hf) (lw_V q2458 q2460 qs131 q186 q2461) hd_f_t_isCell ho hfr hlo rfl (fun H hR hK => t_recv H hR hK) rfl hcat d k
abbrev mX6_cell : xM := (cX6_cell, 5, RX6, 3, 180, (some .int), "cell")
def f_t_cell (x1 : Int32) (x2 : Int32) (x3 : Int32) (τ : TS) : Option (Int32 × TS) :=
  xbd (f_t_isCell x1 x2 τ) fun r1 τ1 =>
  if r1 = 0 then
  some (((-1), τ1))
  else
  if x3 = 0 then
  if xin (80 + ((8 * x1) + x2)) 160 = true then
  some ((tA τ1 50 (80 + ((8 * x1) + x2)).toNatClampNeg, τ1))
  else none
  else
  if x3 = 1 then
  xbd (f_t_willowsAt ((8 * x1) + x2) τ1) fun r2 τ2 =>
  some ((r2, τ2))
  else
  if x3 = 2 then
  xbd (f_t_everAt ((8 * x1) + x2) τ1) fun r3 τ3 =>
  some ((r3, τ3))
  else
  some (((-1), τ1))
theorem ok_f_t_cell {D : TD} {m : Nat} {K : xK} {Z : Option Value × TS} {x1 : Int32} {x2 : Int32} {x3 : Int32} {τ : TS} {o_ : (Int32 × TS)} (hf : f_t_cell x1 x2 x3 τ = some o_) (kr : ∀ r_ : (Int32 × TS), o_ = r_ → Z = (some (.int r_.1), r_.2)) : xV (wT D m) K mX6_cell (xQ (wT D m) K Z) τ 0 [(0, .ref m), (1, .int x1), (2, .int x2), (3, .int x3)] [] := by
  unfold f_t_cell at hf
  refine xr_aload_n (pc := 0) 0 dX6_cell_0 rfl rfl ?_
  refine xr_iload_n (pc := 1) 1 dX6_cell_1 rfl rfl ?_
  refine xr_iload_n (pc := 2) 2 dX6_cell_2 rfl rfl ?_
  obtain ⟨r1, τ1, hτ1, hf⟩ := xo_bd hf
  refine call_f_t_isCell (pc := 3) hτ1 rfl (Nat.le_of_ble_eq_true rfl) (Nat.le_of_ble_eq_true rfl) (Nat.le_of_ble_eq_true rfl) dX6_cell_3 ?_
  refine xr_if_ne (pc := 6) 11 dX6_cell_6 (by decide) (fun c_ => ?_) (fun c_ => ?_)
  · have hf := xo_pos c_ hf
    refine xr_iconst (pc := 9) dX6_cell_9 xci_m1 ?_
    rw [kr _ (Option.some.inj hf).symm]
    exact xr_iret (pc := 10) dX6_cell_10 rfl
  · have hf := xo_neg c_ hf
    refine xr_bipush (pc := 11) dX6_cell_11 xcb_8 ?_
    refine xr_iload_n (pc := 13) 1 dX6_cell_13 rfl rfl ?_
    refine xr_imul (pc := 14) dX6_cell_14 ?_
    refine xr_iload_n (pc := 15) 2 dX6_cell_15 rfl rfl ?_
    refine xr_iadd (pc := 16) dX6_cell_16 ?_
    refine xr_istore (pc := 17) (loc' := [(4, .int ((8 * x1) + x2)), (0, .ref m), (1, .int x1), (2, .int x2), (3, .int x3)]) dX6_cell_17 (by decide) rfl ?_
    refine xr_iload_n (pc := 19) 4 dX6_cell_19 rfl rfl ?_
    refine xr_if_ne (pc := 20) 36 dX6_cell_20 (by decide) (fun c_ => ?_) (fun c_ => ?_)
    · have hf := xo_pos c_ hf
      refine xr_aload_n (pc := 23) 1 dX6_cell_23 rfl rfl ?_
      refine xt_getA (pc := 24) 50 (by decide) q1796 rfl rfl rfl dX6_cell_24 ?_
      refine xr_bipush (pc := 27) dX6_cell_27 xcb_80 ?_
      refine xr_iload (pc := 29) 0 dX6_cell_29 rfl ?_
      refine xr_iadd (pc := 31) dX6_cell_31 ?_
      obtain ⟨hi_, hf⟩ := xo_if hf
      refine xt_iald (pc := 32) 50 rfl rfl hi_ dX6_cell_32 ?_
      refine xr_goto (pc := 33) 65 dX6_cell_33 (by decide) ?_
      rw [kr _ (Option.some.inj hf).symm]
      exact xr_iret (pc := 65) dX6_cell_65 rfl
    · have hf := xo_neg c_ hf
      refine xr_iload_n (pc := 36) 4 dX6_cell_36 rfl rfl ?_
      refine xr_iconst (pc := 37) dX6_cell_37 xci_1 ?_
      refine xr_icmp_ne (pc := 38) 50 dX6_cell_38 (by decide) (fun c_ => ?_) (fun c_ => ?_)
      · have hf := xo_pos c_ hf
        refine xr_aload_n (pc := 41) 1 dX6_cell_41 rfl rfl ?_
        refine xr_iload (pc := 42) 0 dX6_cell_42 rfl ?_
        obtain ⟨r2, τ2, hτ2, hf⟩ := xo_bd hf
        refine call_f_t_willowsAt (pc := 44) hτ2 rfl (Nat.le_of_ble_eq_true rfl) (Nat.le_of_ble_eq_true rfl) (Nat.le_of_ble_eq_true rfl) dX6_cell_44 ?_
        refine xr_goto (pc := 47) 65 dX6_cell_47 (by decide) ?_
        rw [kr _ (Option.some.inj hf).symm]
        exact xr_iret (pc := 65) dX6_cell_65 rfl
      · have hf := xo_neg c_ hf
        refine xr_iload_n (pc := 50) 4 dX6_cell_50 rfl rfl ?_
        refine xr_iconst (pc := 51) dX6_cell_51 xci_2 ?_
        refine xr_icmp_ne (pc := 52) 64 dX6_cell_52 (by decide) (fun c_ => ?_) (fun c_ => ?_)
        · have hf := xo_pos c_ hf
          refine xr_aload_n (pc := 55) 1 dX6_cell_55 rfl rfl ?_
          refine xr_iload (pc := 56) 0 dX6_cell_56 rfl ?_
          obtain ⟨r3, τ3, hτ3, hf⟩ := xo_bd hf
          refine call_f_t_everAt (pc := 58) hτ3 rfl (Nat.le_of_ble_eq_true rfl) (Nat.le_of_ble_eq_true rfl) (Nat.le_of_ble_eq_true rfl) dX6_cell_58 ?_
          refine xr_goto (pc := 61) 65 dX6_cell_61 (by decide) ?_
          rw [kr _ (Option.some.inj hf).symm]
          exact xr_iret (pc := 65) dX6_cell_65 rfl
        · have hf := xo_neg c_ hf
          refine xr_iconst (pc := 64) dX6_cell_64 xci_m1 ?_
          rw [kr _ (Option.some.inj hf).symm]
          exact xr_iret (pc := 65) dX6_cell_65 rfl
theorem met_f_t_cell (l : Launch) {D : TD} {m : Nat} {x1 : Int32} {x2 : Int32} {x3 : Int32} {τ : TS} {o_ : (Int32 × TS)} (hf : f_t_cell x1 x2 x3 τ = some o_) : xMet (wT D m) l yX6_cell (ws_ yX6_cell cX6_cell 5 (some .int)) 3 180 0 0 [.ref m, .int x1, .int x2, .int x3] τ (some (.int o_.1), o_.2) :=
  xMet_of (by decide) (Nat.le_of_ble_eq_true rfl) KT_moved (fun _ _ => trivial) (fun K _ _ _ => ok_f_t_cell hf (fun _ h => by rw [h]))
abbrev mX6_eatsOf : xM := (cX6_eatsOf, 4, RX6, 5, 300, (some .long), "eatsOf")
def f_t_eatsOf (x1 : Int32) (x2 : Int32) (τ : TS) : Option (Int64 × TS) :=
  if xin 2 4 = true then
  if (tA τ 55 (2 : Int32).toNatClampNeg) = (-1) then
  xbd (f_t_payOf x1 τ) fun r1 τ1 =>
  xbd (f_t_turnOf x1 τ1) fun r2 τ2 =>
  if xin (80 + ((8 * x1) + x2)) 160 = true then
  xbd (f_t_willowsAt ((8 * x1) + x2) τ2) fun r3 τ3 =>
  some (((((r1 + r2) - (tA τ2 50 (80 + ((8 * x1) + x2)).toNatClampNeg)) - r3).toInt64, τ3))
  else none
  else
  xbd (f_t_turnOf x1 (sI (sI τ 64 x1) 65 x2)) fun r4 τ4 =>
  xbd (f_t_codesTell 0 (sI τ4 66 r4)) fun r5 τ5 =>
  some ((r5, τ5))
  else none
theorem ok_f_t_eatsOf {D : TD} {m : Nat} {K : xK} {Z : Option Value × TS} {x1 : Int32} {x2 : Int32} {τ : TS} {o_ : (Int64 × TS)} (hf : f_t_eatsOf x1 x2 τ = some o_) (kr : ∀ r_ : (Int64 × TS), o_ = r_ → Z = (some (.long r_.1), r_.2)) : xV (wT D m) K mX6_eatsOf (xQ (wT D m) K Z) τ 0 [(0, .ref m), (1, .int x1), (2, .int x2)] [] := by
  unfold f_t_eatsOf at hf
  refine xr_bipush (pc := 0) dX6_eatsOf_0 xcb_8 ?_
  refine xr_iload_n (pc := 2) 1 dX6_eatsOf_2 rfl rfl ?_
  refine xr_imul (pc := 3) dX6_eatsOf_3 ?_
  refine xr_iload_n (pc := 4) 2 dX6_eatsOf_4 rfl rfl ?_
  refine xr_iadd (pc := 5) dX6_eatsOf_5 ?_
  refine xr_istore_n (pc := 6) (loc' := [(3, .int ((8 * x1) + x2)), (0, .ref m), (1, .int x1), (2, .int x2)]) dX6_eatsOf_6 rfl (by decide) rfl ?_
  refine xr_aload_n (pc := 7) 1 dX6_eatsOf_7 rfl rfl ?_
  refine xt_getA (pc := 8) 55 (by decide) q1801 rfl rfl rfl dX6_eatsOf_8 ?_
  refine xr_iconst (pc := 11) dX6_eatsOf_11 xci_2 ?_
  obtain ⟨hi_, hf⟩ := xo_if hf
  refine xt_iald (pc := 12) 55 rfl rfl hi_ dX6_eatsOf_12 ?_
  refine xr_iconst (pc := 13) dX6_eatsOf_13 xci_m1 ?_
  refine xr_icmp_ne (pc := 14) 46 dX6_eatsOf_14 (by decide) (fun c_ => ?_) (fun c_ => ?_)
  · have hf := xo_pos c_ hf
    refine xr_aload_n (pc := 17) 1 dX6_eatsOf_17 rfl rfl ?_
    refine xr_iload_n (pc := 18) 2 dX6_eatsOf_18 rfl rfl ?_
    obtain ⟨r1, τ1, hτ1, hf⟩ := xo_bd hf
    refine call_f_t_payOf (pc := 19) hτ1 rfl (Nat.le_of_ble_eq_true rfl) (Nat.le_of_ble_eq_true rfl) (Nat.le_of_ble_eq_true rfl) dX6_eatsOf_19 ?_
    refine xr_aload_n (pc := 22) 1 dX6_eatsOf_22 rfl rfl ?_
    refine xr_iload_n (pc := 23) 2 dX6_eatsOf_23 rfl rfl ?_
    obtain ⟨r2, τ2, hτ2, hf⟩ := xo_bd hf
    refine call_f_t_turnOf (pc := 24) hτ2 rfl (Nat.le_of_ble_eq_true rfl) (Nat.le_of_ble_eq_true rfl) (Nat.le_of_ble_eq_true rfl) dX6_eatsOf_24 ?_
    refine xr_iadd (pc := 27) dX6_eatsOf_27 ?_
    refine xr_aload_n (pc := 28) 1 dX6_eatsOf_28 rfl rfl ?_
    refine xt_getA (pc := 29) 50 (by decide) q1796 rfl rfl rfl dX6_eatsOf_29 ?_
    refine xr_bipush (pc := 32) dX6_eatsOf_32 xcb_80 ?_
    refine xr_iload_n (pc := 34) 0 dX6_eatsOf_34 rfl rfl ?_
    refine xr_iadd (pc := 35) dX6_eatsOf_35 ?_
    obtain ⟨hi_, hf⟩ := xo_if hf
    refine xt_iald (pc := 36) 50 rfl rfl hi_ dX6_eatsOf_36 ?_
    refine xr_isub (pc := 37) dX6_eatsOf_37 ?_
    refine xr_aload_n (pc := 38) 1 dX6_eatsOf_38 rfl rfl ?_
    refine xr_iload_n (pc := 39) 0 dX6_eatsOf_39 rfl rfl ?_
    obtain ⟨r3, τ3, hτ3, hf⟩ := xo_bd hf
    refine call_f_t_willowsAt (pc := 40) hτ3 rfl (Nat.le_of_ble_eq_true rfl) (Nat.le_of_ble_eq_true rfl) (Nat.le_of_ble_eq_true rfl) dX6_eatsOf_40 ?_
    refine xr_isub (pc := 43) dX6_eatsOf_43 ?_
    refine xr_i2l (pc := 44) dX6_eatsOf_44 ?_
    rw [kr _ (Option.some.inj hf).symm]
    exact xr_lret (pc := 45) dX6_eatsOf_45 rfl
  · have hf := xo_neg c_ hf
    refine xr_aload_n (pc := 46) 1 dX6_eatsOf_46 rfl rfl ?_
    refine xr_iload_n (pc := 47) 2 dX6_eatsOf_47 rfl rfl ?_
    refine xt_putI (pc := 48) 64 (by decide) q1810 rfl rfl rfl (by decide +kernel) rfl dX6_eatsOf_48 ?_
    refine xr_aload_n (pc := 51) 1 dX6_eatsOf_51 rfl rfl ?_
    refine xr_iload_n (pc := 52) 3 dX6_eatsOf_52 rfl rfl ?_
    refine xt_putI (pc := 53) 65 (by decide) q1811 rfl rfl rfl (by decide +kernel) rfl dX6_eatsOf_53 ?_
    refine xr_aload_n (pc := 56) 1 dX6_eatsOf_56 rfl rfl ?_
    refine xr_aload_n (pc := 57) 1 dX6_eatsOf_57 rfl rfl ?_
    refine xr_iload_n (pc := 58) 2 dX6_eatsOf_58 rfl rfl ?_
    obtain ⟨r4, τ4, hτ4, hf⟩ := xo_bd hf
    refine call_f_t_turnOf (pc := 59) hτ4 rfl (Nat.le_of_ble_eq_true rfl) (Nat.le_of_ble_eq_true rfl) (Nat.le_of_ble_eq_true rfl) dX6_eatsOf_59 ?_
    refine xt_putI (pc := 62) 66 (by decide) q1812 rfl rfl rfl (by decide +kernel) rfl dX6_eatsOf_62 ?_
    refine xr_aload_n (pc := 65) 1 dX6_eatsOf_65 rfl rfl ?_
    refine xr_iconst (pc := 66) dX6_eatsOf_66 xci_0 ?_
    obtain ⟨r5, τ5, hτ5, hf⟩ := xo_bd hf
    refine call_f_t_codesTell (pc := 67) hτ5 rfl (Nat.le_of_ble_eq_true rfl) (Nat.le_of_ble_eq_true rfl) (Nat.le_of_ble_eq_true rfl) dX6_eatsOf_67 ?_
    rw [kr _ (Option.some.inj hf).symm]
    exact xr_lret (pc := 70) dX6_eatsOf_70 rfl
theorem met_f_t_eatsOf (l : Launch) {D : TD} {m : Nat} {x1 : Int32} {x2 : Int32} {τ : TS} {o_ : (Int64 × TS)} (hf : f_t_eatsOf x1 x2 τ = some o_) : xMet (wT D m) l yX6_eatsOf (ws_ yX6_eatsOf cX6_eatsOf 4 (some .long)) 5 300 0 0 [.ref m, .int x1, .int x2] τ (some (.long o_.1), o_.2) :=
  xMet_of (by decide) (Nat.le_of_ble_eq_true rfl) KT_moved (fun _ _ => trivial) (fun K _ _ _ => ok_f_t_eatsOf hf (fun _ h => by rw [h]))
theorem hd_f_t_eatsOf : yX6_eatsOf.cls = RX6 ∧ yX6_eatsOf.cls ≠ "java/lang/invoke/MethodHandle" ∧ yX6_eatsOf.cls ≠ "java/lang/invoke/VarHandle" ∧ (parseMethodDescriptor yX6_eatsOf.desc).map (fun d => d.parameters.length) = some 2 := by decide +kernel
theorem call_f_t_eatsOf {D : TD} {m : Nat} {K : xK} {M : xM} {Q : State → Prop} {x1 : Int32} {x2 : Int32} {τ : TS} {pc : Nat} {loc : List (Nat × Value)} {st : List Value} {r : Int64} {τ1 : TS} (hf : f_t_eatsOf x1 x2 τ = some (r, τ1)) (ho : M.2.2.1 = RX6) (hfr : 6 ≤ M.2.2.2.1) (hlo : 323 ≤ M.2.2.2.2.1) (hcat : (st.map fun v => v.category).sum ≤ 8) (d : decode M.1 pc = .ok (.invokevirtual 554, 3)) (k : xV (wT D m) K M Q τ1 (pc + 3) loc (.long r :: st)) : xV (wT D m) K M Q τ pc loc (.int x2 :: .int x1 :: .ref m :: st) :=
  xr_callV (As := [.int x1, .int x2]) (rest := st) (met_f_t_eatsOf K.2.1 hf) (lw_V q2470 q2472 qs133 q186 q2473) hd_f_t_eatsOf ho hfr hlo rfl (fun H hR hK => t_recv H hR hK) rfl hcat d k
abbrev mX6_eats : xM := (cX6_eats, 3, RX6, 6, 360, (some .long), "eats")
def f_t_eats (x1 : Int32) (x2 : Int32) (τ : TS) : Option (Int64 × TS) :=
  xbd (f_t_isCell x1 x2 τ) fun r1 τ1 =>
  if r1 = 0 then
  some (((-1000000000000000), τ1))
  else
  xbd (f_t_eatsOf x1 x2 τ1) fun r2 τ2 =>
  some ((r2, τ2))
theorem ok_f_t_eats {D : TD} {m : Nat} {K : xK} {Z : Option Value × TS} {x1 : Int32} {x2 : Int32} {τ : TS} {o_ : (Int64 × TS)} (hf : f_t_eats x1 x2 τ = some o_) (kr : ∀ r_ : (Int64 × TS), o_ = r_ → Z = (some (.long r_.1), r_.2)) : xV (wT D m) K mX6_eats (xQ (wT D m) K Z) τ 0 [(0, .ref m), (1, .int x1), (2, .int x2)] [] := by
  unfold f_t_eats at hf
  refine xr_aload_n (pc := 0) 0 dX6_eats_0 rfl rfl ?_
  refine xr_iload_n (pc := 1) 1 dX6_eats_1 rfl rfl ?_
  refine xr_iload_n (pc := 2) 2 dX6_eats_2 rfl rfl ?_
  obtain ⟨r1, τ1, hτ1, hf⟩ := xo_bd hf
  refine call_f_t_isCell (pc := 3) hτ1 rfl (Nat.le_of_ble_eq_true rfl) (Nat.le_of_ble_eq_true rfl) (Nat.le_of_ble_eq_true rfl) dX6_eats_3 ?_
  refine xr_if_eq (pc := 6) 18 dX6_eats_6 (by decide) (fun c_ => ?_) (fun c_ => ?_)
  · have hf := xo_pos c_ hf
    refine xr_ldc2 (pc := 18) q2474 dX6_eats_18 ?_
    rw [kr _ (Option.some.inj hf).symm]
    exact xr_lret (pc := 21) dX6_eats_21 rfl
  · have hf := xo_neg c_ hf
    refine xr_aload_n (pc := 9) 0 dX6_eats_9 rfl rfl ?_
    refine xr_iload_n (pc := 10) 1 dX6_eats_10 rfl rfl ?_
    refine xr_iload_n (pc := 11) 2 dX6_eats_11 rfl rfl ?_
    obtain ⟨r2, τ2, hτ2, hf⟩ := xo_bd hf
    refine call_f_t_eatsOf (pc := 12) hτ2 rfl (Nat.le_of_ble_eq_true rfl) (Nat.le_of_ble_eq_true rfl) (Nat.le_of_ble_eq_true rfl) dX6_eats_12 ?_
    refine xr_goto (pc := 15) 21 dX6_eats_15 (by decide) ?_
    rw [kr _ (Option.some.inj hf).symm]
    exact xr_lret (pc := 21) dX6_eats_21 rfl
theorem met_f_t_eats (l : Launch) {D : TD} {m : Nat} {x1 : Int32} {x2 : Int32} {τ : TS} {o_ : (Int64 × TS)} (hf : f_t_eats x1 x2 τ = some o_) : xMet (wT D m) l yX6_eats (ws_ yX6_eats cX6_eats 3 (some .long)) 6 360 0 0 [.ref m, .int x1, .int x2] τ (some (.long o_.1), o_.2) :=
  xMet_of (by decide) (Nat.le_of_ble_eq_true rfl) KT_moved (fun _ _ => trivial) (fun K _ _ _ => ok_f_t_eats hf (fun _ h => by rw [h]))
abbrev mX6_bendsOf : xM := (cX6_bendsOf, 4, RX6, 7, 420, (some .int), "bendsOf")
def Jt_bendsOf_40 (x1 : Int32) (x2 : Int32) (x3 : Int32) (τ : TS) : Option ((Int32 × Int32 × TS) ⊕ ((Int32 × TS))) :=
  some (.inl (x2, x3 + 1, τ))
theorem ok_Jt_bendsOf_40 {D : TD} {m : Nat} {K : xK} {Z : Option Value × TS} {x1 : Int32} {x2 : Int32} {x3 : Int32} {τ : TS} {o_ : ((Int32 × Int32 × TS) ⊕ ((Int32 × TS)))} (hf : Jt_bendsOf_40 x1 x2 x3 τ = some o_) (kc : ∀ s_ : Int32 × Int32 × TS, o_ = .inl s_ → xV (wT D m) K mX6_bendsOf (xQ (wT D m) K Z) s_.2.2 14 [(0, .ref m), (1, .int x1), (2, .int s_.1), (3, .int s_.2.1)] []) (ke0 : ∀ e_ : Int32 × TS, o_ = .inr e_ → xV (wT D m) K mX6_bendsOf (xQ (wT D m) K Z) e_.2 46 [(2, .int e_.1)] []) : xV (wT D m) K mX6_bendsOf (xQ (wT D m) K Z) τ 40 [(0, .ref m), (1, .int x1), (2, .int x2), (3, .int x3)] [] := by
  unfold Jt_bendsOf_40 at hf
  refine xr_iinc (pc := 40) (loc' := [(3, .int (x3 + 1)), (0, .ref m), (1, .int x1), (2, .int x2)]) 3 dX6_bendsOf_40 rfl xci_1 (by decide) rfl ?_
  refine xr_goto (pc := 43) 14 dX6_bendsOf_43 (by decide) ?_
  refine xV_sub [1, 2, 3, 0] rfl ?_
  exact kc _ (Option.some.inj hf).symm
def Bt_bendsOf_14 (x1 : Int32) (x2 : Int32) (x3 : Int32) (τ : TS) : Option ((Int32 × Int32 × TS) ⊕ ((Int32 × TS))) :=
  if xin (26 + (5 * x1)) 50 = true then
  if (tA τ 49 (26 + (5 * x1)).toNatClampNeg) < x3 then
  some (.inr (x2, τ))
  else
  xbd (f_t_isBend x3 τ) fun r1 τ1 =>
  if r1 = 0 then
  Jt_bendsOf_40 x1 x2 x3 τ1
  else
  Jt_bendsOf_40 x1 (x2 + 1) x3 τ1
  else none
theorem ok_Bt_bendsOf_14 {D : TD} {m : Nat} {K : xK} {Z : Option Value × TS} {x1 : Int32} {x2 : Int32} {x3 : Int32} {τ : TS} {o_ : ((Int32 × Int32 × TS) ⊕ ((Int32 × TS)))} (hf : Bt_bendsOf_14 x1 x2 x3 τ = some o_) (kc : ∀ s_ : Int32 × Int32 × TS, o_ = .inl s_ → xV (wT D m) K mX6_bendsOf (xQ (wT D m) K Z) s_.2.2 14 [(0, .ref m), (1, .int x1), (2, .int s_.1), (3, .int s_.2.1)] []) (ke0 : ∀ e_ : Int32 × TS, o_ = .inr e_ → xV (wT D m) K mX6_bendsOf (xQ (wT D m) K Z) e_.2 46 [(2, .int e_.1)] []) : xV (wT D m) K mX6_bendsOf (xQ (wT D m) K Z) τ 14 [(0, .ref m), (1, .int x1), (2, .int x2), (3, .int x3)] [] := by
  unfold Bt_bendsOf_14 at hf
  refine xr_iload_n (pc := 14) 3 dX6_bendsOf_14 rfl rfl ?_
  refine xr_aload_n (pc := 15) 0 dX6_bendsOf_15 rfl rfl ?_
  refine xt_getA (pc := 16) 49 (by decide) q1795 rfl rfl rfl dX6_bendsOf_16 ?_
  refine xr_bipush (pc := 19) dX6_bendsOf_19 xcb_26 ?_
  refine xr_iconst (pc := 21) dX6_bendsOf_21 xci_5 ?_
  refine xr_iload_n (pc := 22) 1 dX6_bendsOf_22 rfl rfl ?_
  refine xr_imul (pc := 23) dX6_bendsOf_23 ?_
  refine xr_iadd (pc := 24) dX6_bendsOf_24 ?_
  obtain ⟨hi_, hf⟩ := xo_if hf
  refine xt_iald (pc := 25) 49 rfl rfl hi_ dX6_bendsOf_25 ?_
  refine xr_icmp_gt (pc := 26) 46 dX6_bendsOf_26 (by decide) (fun c_ => ?_) (fun c_ => ?_)
  · have hf := xo_pos c_ hf
    refine xV_sub [2] rfl ?_
    exact ke0 _ (Option.some.inj hf).symm
  · have hf := xo_neg c_ hf
    refine xr_aload_n (pc := 29) 0 dX6_bendsOf_29 rfl rfl ?_
    refine xr_iload_n (pc := 30) 3 dX6_bendsOf_30 rfl rfl ?_
    obtain ⟨r1, τ1, hτ1, hf⟩ := xo_bd hf
    refine call_f_t_isBend (pc := 31) hτ1 rfl (Nat.le_of_ble_eq_true rfl) (Nat.le_of_ble_eq_true rfl) (Nat.le_of_ble_eq_true rfl) dX6_bendsOf_31 ?_
    refine xr_if_eq (pc := 34) 40 dX6_bendsOf_34 (by decide) (fun c_ => ?_) (fun c_ => ?_)
    · have hf := xo_pos c_ hf
      exact ok_Jt_bendsOf_40 hf kc ke0
    · have hf := xo_neg c_ hf
      refine xr_iinc (pc := 37) (loc' := [(2, .int (x2 + 1)), (0, .ref m), (1, .int x1), (3, .int x3)]) 2 dX6_bendsOf_37 rfl xci_1 (by decide) rfl ?_
      refine xV_sub [1, 2, 0, 3] rfl ?_
      exact ok_Jt_bendsOf_40 hf kc ke0
def f_t_bendsOf (x1 : Int32) (τ : TS) : Option (Int32 × TS) :=
  if xin (25 + (5 * x1)) 50 = true then
  (itr (fun s_ : Int32 × Int32 × TS => Bt_bendsOf_14 x1 s_.1 s_.2.1 s_.2.2) 4096 (0, tA τ 49 (25 + (5 * x1)).toNatClampNeg, τ)).bind fun b2 =>
  some ((b2.1, b2.2))
  else none
theorem ok_f_t_bendsOf {D : TD} {m : Nat} {K : xK} {Z : Option Value × TS} {x1 : Int32} {τ : TS} {o_ : (Int32 × TS)} (hf : f_t_bendsOf x1 τ = some o_) (kr : ∀ r_ : (Int32 × TS), o_ = r_ → Z = (some (.int r_.1), r_.2)) : xV (wT D m) K mX6_bendsOf (xQ (wT D m) K Z) τ 0 [(0, .ref m), (1, .int x1)] [] := by
  unfold f_t_bendsOf at hf
  refine xr_iconst (pc := 0) dX6_bendsOf_0 xci_0 ?_
  refine xr_istore_n (pc := 1) (loc' := [(2, .int 0), (0, .ref m), (1, .int x1)]) dX6_bendsOf_1 rfl (by decide) rfl ?_
  refine xr_aload_n (pc := 2) 1 dX6_bendsOf_2 rfl rfl ?_
  refine xt_getA (pc := 3) 49 (by decide) q1795 rfl rfl rfl dX6_bendsOf_3 ?_
  refine xr_bipush (pc := 6) dX6_bendsOf_6 xcb_25 ?_
  refine xr_iconst (pc := 8) dX6_bendsOf_8 xci_5 ?_
  refine xr_iload_n (pc := 9) 2 dX6_bendsOf_9 rfl rfl ?_
  refine xr_imul (pc := 10) dX6_bendsOf_10 ?_
  refine xr_iadd (pc := 11) dX6_bendsOf_11 ?_
  obtain ⟨hi_, hf⟩ := xo_if hf
  refine xt_iald (pc := 12) 49 rfl rfl hi_ dX6_bendsOf_12 ?_
  refine xr_istore_n (pc := 13) (loc' := [(3, .int (tA τ 49 (25 + (5 * x1)).toNatClampNeg)), (2, .int 0), (0, .ref m), (1, .int x1)]) dX6_bendsOf_13 rfl (by decide) rfl ?_
  refine xV_sub [2, 3, 1, 0] rfl ?_
  obtain ⟨b2, hb2, hf⟩ := xo_bind hf
  refine itr_rule (P := fun s_ : Int32 × Int32 × TS => xV (wT D m) K mX6_bendsOf (xQ (wT D m) K Z) s_.2.2 14 [(0, .ref m), (1, .int x1), (2, .int s_.1), (3, .int s_.2.1)] []) (fun s_ o_ hB_ hc_ he_ => ok_Bt_bendsOf_14 hB_ hc_ (fun e_ h_ => ?_)) 4096 _ hb2
  · have e9_ := he_ _ h_
    rw [e9_]
    refine xr_iload_n (pc := 46) 0 dX6_bendsOf_46 rfl rfl ?_
    rw [kr _ (Option.some.inj hf).symm]
    exact xr_iret (pc := 47) dX6_bendsOf_47 rfl
theorem met_f_t_bendsOf (l : Launch) {D : TD} {m : Nat} {x1 : Int32} {τ : TS} {o_ : (Int32 × TS)} (hf : f_t_bendsOf x1 τ = some o_) : xMet (wT D m) l yX6_bendsOf (ws_ yX6_bendsOf cX6_bendsOf 4 (some .int)) 7 420 0 0 [.ref m, .int x1] τ (some (.int o_.1), o_.2) :=
  xMet_of (by decide) (Nat.le_of_ble_eq_true rfl) KT_moved (fun _ _ => trivial) (fun K _ _ _ => ok_f_t_bendsOf hf (fun _ h => by rw [h]))
theorem hd_f_t_bendsOf : yX6_bendsOf.cls = RX6 ∧ yX6_bendsOf.cls ≠ "java/lang/invoke/MethodHandle" ∧ yX6_bendsOf.cls ≠ "java/lang/invoke/VarHandle" ∧ (parseMethodDescriptor yX6_bendsOf.desc).map (fun d => d.parameters.length) = some 1 := by decide +kernel
theorem call_f_t_bendsOf {D : TD} {m : Nat} {K : xK} {M : xM} {Q : State → Prop} {x1 : Int32} {τ : TS} {pc : Nat} {loc : List (Nat × Value)} {st : List Value} {r : Int32} {τ1 : TS} (hf : f_t_bendsOf x1 τ = some (r, τ1)) (ho : M.2.2.1 = RX6) (hfr : 8 ≤ M.2.2.2.1) (hlo : 443 ≤ M.2.2.2.2.1) (hcat : (st.map fun v => v.category).sum ≤ 8) (d : decode M.1 pc = .ok (.invokevirtual 600, 3)) (k : xV (wT D m) K M Q τ1 (pc + 3) loc (.int r :: st)) : xV (wT D m) K M Q τ pc loc (.int x1 :: .ref m :: st) :=
  xr_callV (As := [.int x1]) (rest := st) (met_f_t_bendsOf K.2.1 hf) (lw_V q2480 q2482 qs134 q186 q2483) hd_f_t_bendsOf ho hfr hlo rfl (fun H hR hK => t_recv H hR hK) rfl hcat d k
abbrev mX6_lord : xM := (cX6_lord, 3, RX6, 8, 480, (some .int), "lord")
def f_t_lord (x1 : Int32) (x2 : Int32) (τ : TS) : Option (Int32 × TS) :=
  xbd (f_t_isLord x1 τ) fun r1 τ1 =>
  if r1 = 0 then
  some (((-1), τ1))
  else
  xbd (f_t_isIn x2.toInt64 0 3 τ1) fun r2 τ2 =>
  if r2 = 0 then
  if x2 = 4 then
  xbd (f_t_purseOf x1 τ2) fun r5 τ5 =>
  some ((r5, τ5))
  else
  if x2 = 5 then
  xbd (f_t_doesOffer x1 τ2) fun r4 τ4 =>
  if r4 = 0 then
  some ((0, τ4))
  else
  some ((1, τ4))
  else
  if x2 = 6 then
  xbd (f_t_bendsOf x1 τ2) fun r3 τ3 =>
  some ((r3, τ3))
  else
  some (((-1), τ2))
  else
  if xin ((25 + (5 * x1)) + x2) 50 = true then
  some ((tA τ2 49 ((25 + (5 * x1)) + x2).toNatClampNeg, τ2))
  else none
theorem ok_f_t_lord {D : TD} {m : Nat} {K : xK} {Z : Option Value × TS} {x1 : Int32} {x2 : Int32} {τ : TS} {o_ : (Int32 × TS)} (hf : f_t_lord x1 x2 τ = some o_) (kr : ∀ r_ : (Int32 × TS), o_ = r_ → Z = (some (.int r_.1), r_.2)) : xV (wT D m) K mX6_lord (xQ (wT D m) K Z) τ 0 [(0, .ref m), (1, .int x1), (2, .int x2)] [] := by
  unfold f_t_lord at hf
  refine xr_aload_n (pc := 0) 0 dX6_lord_0 rfl rfl ?_
  refine xr_iload_n (pc := 1) 1 dX6_lord_1 rfl rfl ?_
  obtain ⟨r1, τ1, hτ1, hf⟩ := xo_bd hf
  refine call_f_t_isLord (pc := 2) hτ1 rfl (Nat.le_of_ble_eq_true rfl) (Nat.le_of_ble_eq_true rfl) (Nat.le_of_ble_eq_true rfl) dX6_lord_2 ?_
  refine xr_if_ne (pc := 5) 10 dX6_lord_5 (by decide) (fun c_ => ?_) (fun c_ => ?_)
  · have hf := xo_pos c_ hf
    refine xr_iconst (pc := 8) dX6_lord_8 xci_m1 ?_
    rw [kr _ (Option.some.inj hf).symm]
    exact xr_iret (pc := 9) dX6_lord_9 rfl
  · have hf := xo_neg c_ hf
    refine xr_iload_n (pc := 10) 2 dX6_lord_10 rfl rfl ?_
    refine xr_i2l (pc := 11) dX6_lord_11 ?_
    refine xr_lconst (pc := 12) dX6_lord_12 (by decide : _ = (0 : Int64)) ?_
    refine xr_ldc2 (pc := 13) q2479 dX6_lord_13 ?_
    obtain ⟨r2, τ2, hτ2, hf⟩ := xo_bd hf
    refine call_f_t_isIn (pc := 16) hτ2 rfl (Nat.le_of_ble_eq_true rfl) (Nat.le_of_ble_eq_true rfl) (Nat.le_of_ble_eq_true rfl) dX6_lord_16 ?_
    refine xr_if_eq (pc := 19) 36 dX6_lord_19 (by decide) (fun c_ => ?_) (fun c_ => ?_)
    · have hf := xo_pos c_ hf
      refine xr_iload_n (pc := 36) 2 dX6_lord_36 rfl rfl ?_
      by_cases c0_ : x2 = 4
      · have hf := xo_pos c0_ hf
        refine xr_tsw_in (pc := 37) (v := 4) (off := 27) 64 dX6_lord_37 c0_ (by decide) (by decide +kernel) (by decide) ?_
        refine xr_aload_n (pc := 64) 0 dX6_lord_64 rfl rfl ?_
        refine xr_iload_n (pc := 65) 1 dX6_lord_65 rfl rfl ?_
        obtain ⟨r5, τ5, hτ5, hf⟩ := xo_bd hf
        refine call_f_t_purseOf (pc := 66) hτ5 rfl (Nat.le_of_ble_eq_true rfl) (Nat.le_of_ble_eq_true rfl) (Nat.le_of_ble_eq_true rfl) dX6_lord_66 ?_
        rw [kr _ (Option.some.inj hf).symm]
        exact xr_iret (pc := 69) dX6_lord_69 rfl
      have hf := xo_neg c0_ hf
      by_cases c1_ : x2 = 5
      · have hf := xo_pos c1_ hf
        refine xr_tsw_in (pc := 37) (v := 5) (off := 33) 70 dX6_lord_37 c1_ (by decide) (by decide +kernel) (by decide) ?_
        refine xr_aload_n (pc := 70) 0 dX6_lord_70 rfl rfl ?_
        refine xr_iload_n (pc := 71) 1 dX6_lord_71 rfl rfl ?_
        obtain ⟨r4, τ4, hτ4, hf⟩ := xo_bd hf
        refine call_f_t_doesOffer (pc := 72) hτ4 rfl (Nat.le_of_ble_eq_true rfl) (Nat.le_of_ble_eq_true rfl) (Nat.le_of_ble_eq_true rfl) dX6_lord_72 ?_
        refine xr_if_eq (pc := 75) 82 dX6_lord_75 (by decide) (fun c_ => ?_) (fun c_ => ?_)
        · have hf := xo_pos c_ hf
          refine xr_iconst (pc := 82) dX6_lord_82 xci_0 ?_
          rw [kr _ (Option.some.inj hf).symm]
          exact xr_iret (pc := 83) dX6_lord_83 rfl
        · have hf := xo_neg c_ hf
          refine xr_iconst (pc := 78) dX6_lord_78 xci_1 ?_
          refine xr_goto (pc := 79) 83 dX6_lord_79 (by decide) ?_
          rw [kr _ (Option.some.inj hf).symm]
          exact xr_iret (pc := 83) dX6_lord_83 rfl
      have hf := xo_neg c1_ hf
      by_cases c2_ : x2 = 6
      · have hf := xo_pos c2_ hf
        refine xr_tsw_in (pc := 37) (v := 6) (off := 47) 84 dX6_lord_37 c2_ (by decide) (by decide +kernel) (by decide) ?_
        refine xr_aload_n (pc := 84) 0 dX6_lord_84 rfl rfl ?_
        refine xr_iload_n (pc := 85) 1 dX6_lord_85 rfl rfl ?_
        obtain ⟨r3, τ3, hτ3, hf⟩ := xo_bd hf
        refine call_f_t_bendsOf (pc := 86) hτ3 rfl (Nat.le_of_ble_eq_true rfl) (Nat.le_of_ble_eq_true rfl) (Nat.le_of_ble_eq_true rfl) dX6_lord_86 ?_
        rw [kr _ (Option.some.inj hf).symm]
        exact xr_iret (pc := 89) dX6_lord_89 rfl
      have hf := xo_neg c2_ hf
      refine xr_tsw_out (pc := 37) 90 dX6_lord_37 (xsw_out 4 6 [4, 5, 6] (by decide +kernel) (List.forall_mem_cons.mpr ⟨c0_, List.forall_mem_cons.mpr ⟨c1_, List.forall_mem_cons.mpr ⟨c2_, List.forall_mem_nil _⟩⟩⟩)) (by decide) ?_
      refine xr_iconst (pc := 90) dX6_lord_90 xci_m1 ?_
      rw [kr _ (Option.some.inj hf).symm]
      exact xr_iret (pc := 91) dX6_lord_91 rfl
    · have hf := xo_neg c_ hf
      refine xr_aload_n (pc := 22) 0 dX6_lord_22 rfl rfl ?_
      refine xt_getA (pc := 23) 49 (by decide) q1795 rfl rfl rfl dX6_lord_23 ?_
      refine xr_bipush (pc := 26) dX6_lord_26 xcb_25 ?_
      refine xr_iconst (pc := 28) dX6_lord_28 xci_5 ?_
      refine xr_iload_n (pc := 29) 1 dX6_lord_29 rfl rfl ?_
      refine xr_imul (pc := 30) dX6_lord_30 ?_
      refine xr_iadd (pc := 31) dX6_lord_31 ?_
      refine xr_iload_n (pc := 32) 2 dX6_lord_32 rfl rfl ?_
      refine xr_iadd (pc := 33) dX6_lord_33 ?_
      obtain ⟨hi_, hf⟩ := xo_if hf
      refine xt_iald (pc := 34) 49 rfl rfl hi_ dX6_lord_34 ?_
      rw [kr _ (Option.some.inj hf).symm]
      exact xr_iret (pc := 35) dX6_lord_35 rfl
theorem met_f_t_lord (l : Launch) {D : TD} {m : Nat} {x1 : Int32} {x2 : Int32} {τ : TS} {o_ : (Int32 × TS)} (hf : f_t_lord x1 x2 τ = some o_) : xMet (wT D m) l yX6_lord (ws_ yX6_lord cX6_lord 3 (some .int)) 8 480 0 0 [.ref m, .int x1, .int x2] τ (some (.int o_.1), o_.2) :=
  xMet_of (by decide) (Nat.le_of_ble_eq_true rfl) KT_moved (fun _ _ => trivial) (fun K _ _ _ => ok_f_t_lord hf (fun _ h => by rw [h]))
abbrev mX6_kept : xM := (cX6_kept, 3, RX6, 1, 60, (some .int), "kept")
def Jt_kept_49 (τ : TS) : Option (Int32 × TS) :=
  some (((-1), τ))
theorem ok_Jt_kept_49 {D : TD} {m : Nat} {K : xK} {Z : Option Value × TS} {τ : TS} {o_ : (Int32 × TS)} (hf : Jt_kept_49 τ = some o_) (kr : ∀ r_ : (Int32 × TS), o_ = r_ → Z = (some (.int r_.1), r_.2)) : xV (wT D m) K mX6_kept (xQ (wT D m) K Z) τ 49 [] [] := by
  unfold Jt_kept_49 at hf
  refine xr_iconst (pc := 49) dX6_kept_49 xci_m1 ?_
  rw [kr _ (Option.some.inj hf).symm]
  exact xr_iret (pc := 50) dX6_kept_50 rfl
def f_t_kept (x1 : Int32) (x2 : Int32) (τ : TS) : Option (Int32 × TS) :=
  if xin 182 303 = true then
  xbd (f_t_isIn x1.toInt64 0 (((tA τ 62 (182 : Int32).toNatClampNeg) - 1).toInt64) τ) fun r1 τ1 =>
  if r1 = 0 then
  Jt_kept_49 τ1
  else
  xbd (f_t_isIn x2.toInt64 0 2 τ1) fun r2 τ2 =>
  if r2 = 0 then
  Jt_kept_49 τ2
  else
  if xin ((183 + (3 * x1)) + x2) 303 = true then
  some ((tA τ2 62 ((183 + (3 * x1)) + x2).toNatClampNeg, τ2))
  else none
  else none
theorem ok_f_t_kept {D : TD} {m : Nat} {K : xK} {Z : Option Value × TS} {x1 : Int32} {x2 : Int32} {τ : TS} {o_ : (Int32 × TS)} (hf : f_t_kept x1 x2 τ = some o_) (kr : ∀ r_ : (Int32 × TS), o_ = r_ → Z = (some (.int r_.1), r_.2)) : xV (wT D m) K mX6_kept (xQ (wT D m) K Z) τ 0 [(0, .ref m), (1, .int x1), (2, .int x2)] [] := by
  unfold f_t_kept at hf
  refine xr_iload_n (pc := 0) 1 dX6_kept_0 rfl rfl ?_
  refine xr_i2l (pc := 1) dX6_kept_1 ?_
  refine xr_lconst (pc := 2) dX6_kept_2 (by decide : _ = (0 : Int64)) ?_
  refine xr_aload_n (pc := 3) 0 dX6_kept_3 rfl rfl ?_
  refine xt_getA (pc := 4) 62 (by decide) q1808 rfl rfl rfl dX6_kept_4 ?_
  refine xr_sipush (pc := 7) dX6_kept_7 xcs_182 ?_
  obtain ⟨hi_, hf⟩ := xo_if hf
  refine xt_iald (pc := 10) 62 rfl rfl hi_ dX6_kept_10 ?_
  refine xr_iconst (pc := 11) dX6_kept_11 xci_1 ?_
  refine xr_isub (pc := 12) dX6_kept_12 ?_
  refine xr_i2l (pc := 13) dX6_kept_13 ?_
  obtain ⟨r1, τ1, hτ1, hf⟩ := xo_bd hf
  refine call_f_t_isIn (pc := 14) hτ1 rfl (Nat.le_of_ble_eq_true rfl) (Nat.le_of_ble_eq_true rfl) (Nat.le_of_ble_eq_true rfl) dX6_kept_14 ?_
  refine xr_if_eq (pc := 17) 49 dX6_kept_17 (by decide) (fun c_ => ?_) (fun c_ => ?_)
  · have hf := xo_pos c_ hf
    refine xV_sub [] rfl ?_
    exact ok_Jt_kept_49 hf kr
  · have hf := xo_neg c_ hf
    refine xr_iload_n (pc := 20) 2 dX6_kept_20 rfl rfl ?_
    refine xr_i2l (pc := 21) dX6_kept_21 ?_
    refine xr_lconst (pc := 22) dX6_kept_22 (by decide : _ = (0 : Int64)) ?_
    refine xr_ldc2 (pc := 23) q2488 dX6_kept_23 ?_
    obtain ⟨r2, τ2, hτ2, hf⟩ := xo_bd hf
    refine call_f_t_isIn (pc := 26) hτ2 rfl (Nat.le_of_ble_eq_true rfl) (Nat.le_of_ble_eq_true rfl) (Nat.le_of_ble_eq_true rfl) dX6_kept_26 ?_
    refine xr_if_eq (pc := 29) 49 dX6_kept_29 (by decide) (fun c_ => ?_) (fun c_ => ?_)
    · have hf := xo_pos c_ hf
      refine xV_sub [] rfl ?_
      exact ok_Jt_kept_49 hf kr
    · have hf := xo_neg c_ hf
      refine xr_aload_n (pc := 32) 0 dX6_kept_32 rfl rfl ?_
      refine xt_getA (pc := 33) 62 (by decide) q1808 rfl rfl rfl dX6_kept_33 ?_
      refine xr_sipush (pc := 36) dX6_kept_36 xcs_183 ?_
      refine xr_iconst (pc := 39) dX6_kept_39 xci_3 ?_
      refine xr_iload_n (pc := 40) 1 dX6_kept_40 rfl rfl ?_
      refine xr_imul (pc := 41) dX6_kept_41 ?_
      refine xr_iadd (pc := 42) dX6_kept_42 ?_
      refine xr_iload_n (pc := 43) 2 dX6_kept_43 rfl rfl ?_
      refine xr_iadd (pc := 44) dX6_kept_44 ?_
      obtain ⟨hi_, hf⟩ := xo_if hf
      refine xt_iald (pc := 45) 62 rfl rfl hi_ dX6_kept_45 ?_
      refine xr_goto (pc := 46) 50 dX6_kept_46 (by decide) ?_
      rw [kr _ (Option.some.inj hf).symm]
      exact xr_iret (pc := 50) dX6_kept_50 rfl
theorem met_f_t_kept (l : Launch) {D : TD} {m : Nat} {x1 : Int32} {x2 : Int32} {τ : TS} {o_ : (Int32 × TS)} (hf : f_t_kept x1 x2 τ = some o_) : xMet (wT D m) l yX6_kept (ws_ yX6_kept cX6_kept 3 (some .int)) 1 60 0 0 [.ref m, .int x1, .int x2] τ (some (.int o_.1), o_.2) :=
  xMet_of (by decide) (Nat.le_of_ble_eq_true rfl) KT_moved (fun _ _ => trivial) (fun K _ _ _ => ok_f_t_kept hf (fun _ h => by rw [h]))
abbrev mX6_isAhead : xM := (cX6_isAhead, 4, RX6, 1, 60, (some .boolean), "isAhead")
def Jt_isAhead_37 (τ : TS) : Option (Int32 × TS) :=
  some ((0, τ))
theorem ok_Jt_isAhead_37 {D : TD} {m : Nat} {K : xK} {Z : Option Value × TS} {τ : TS} {o_ : (Int32 × TS)} (hf : Jt_isAhead_37 τ = some o_) (kr : ∀ r_ : (Int32 × TS), o_ = r_ → Z = (some (.int r_.1), r_.2)) : xV (wT D m) K mX6_isAhead (xQ (wT D m) K Z) τ 37 [] [] := by
  unfold Jt_isAhead_37 at hf
  refine xr_iconst (pc := 37) dX6_isAhead_37 xci_0 ?_
  rw [kr _ (Option.some.inj hf).symm]
  exact xr_zret (pc := 38) dX6_isAhead_38 rfl xz_0
def f_t_isAhead (x1 : Int32) (x2 : Int32) (x3 : Int32) (τ : TS) : Option (Int32 × TS) :=
  if (tI τ 60) = 0 then
  Jt_isAhead_37 τ
  else
  xbd (f_t_isIn x1.toInt64 x2.toInt64 x3.toInt64 τ) fun r1 τ1 =>
  if r1 = 0 then
  Jt_isAhead_37 τ1
  else
  if xin 0 303 = true then
  if 999 < ((tA τ1 62 (0 : Int32).toNatClampNeg) + x1) then
  Jt_isAhead_37 τ1
  else
  some ((1, τ1))
  else none
theorem ok_f_t_isAhead {D : TD} {m : Nat} {K : xK} {Z : Option Value × TS} {x1 : Int32} {x2 : Int32} {x3 : Int32} {τ : TS} {o_ : (Int32 × TS)} (hf : f_t_isAhead x1 x2 x3 τ = some o_) (kr : ∀ r_ : (Int32 × TS), o_ = r_ → Z = (some (.int r_.1), r_.2)) : xV (wT D m) K mX6_isAhead (xQ (wT D m) K Z) τ 0 [(0, .ref m), (1, .int x1), (2, .int x2), (3, .int x3)] [] := by
  unfold f_t_isAhead at hf
  refine xr_aload_n (pc := 0) 0 dX6_isAhead_0 rfl rfl ?_
  refine xt_getI (pc := 1) 60 (by decide) q1806 rfl rfl rfl dX6_isAhead_1 ?_
  refine xr_if_eq (pc := 4) 37 dX6_isAhead_4 (by decide) (fun c_ => ?_) (fun c_ => ?_)
  · have hf := xo_pos c_ hf
    refine xV_sub [] rfl ?_
    exact ok_Jt_isAhead_37 hf kr
  · have hf := xo_neg c_ hf
    refine xr_iload_n (pc := 7) 1 dX6_isAhead_7 rfl rfl ?_
    refine xr_i2l (pc := 8) dX6_isAhead_8 ?_
    refine xr_iload_n (pc := 9) 2 dX6_isAhead_9 rfl rfl ?_
    refine xr_i2l (pc := 10) dX6_isAhead_10 ?_
    refine xr_iload_n (pc := 11) 3 dX6_isAhead_11 rfl rfl ?_
    refine xr_i2l (pc := 12) dX6_isAhead_12 ?_
    obtain ⟨r1, τ1, hτ1, hf⟩ := xo_bd hf
    refine call_f_t_isIn (pc := 13) hτ1 rfl (Nat.le_of_ble_eq_true rfl) (Nat.le_of_ble_eq_true rfl) (Nat.le_of_ble_eq_true rfl) dX6_isAhead_13 ?_
    refine xr_if_eq (pc := 16) 37 dX6_isAhead_16 (by decide) (fun c_ => ?_) (fun c_ => ?_)
    · have hf := xo_pos c_ hf
      refine xV_sub [] rfl ?_
      exact ok_Jt_isAhead_37 hf kr
    · have hf := xo_neg c_ hf
      refine xr_aload_n (pc := 19) 0 dX6_isAhead_19 rfl rfl ?_
      refine xt_getA (pc := 20) 62 (by decide) q1808 rfl rfl rfl dX6_isAhead_20 ?_
      refine xr_iconst (pc := 23) dX6_isAhead_23 xci_0 ?_
      obtain ⟨hi_, hf⟩ := xo_if hf
      refine xt_iald (pc := 24) 62 rfl rfl hi_ dX6_isAhead_24 ?_
      refine xr_iload_n (pc := 25) 1 dX6_isAhead_25 rfl rfl ?_
      refine xr_iadd (pc := 26) dX6_isAhead_26 ?_
      refine xr_sipush (pc := 27) dX6_isAhead_27 xcs_999 ?_
      refine xr_icmp_gt (pc := 30) 37 dX6_isAhead_30 (by decide) (fun c_ => ?_) (fun c_ => ?_)
      · have hf := xo_pos c_ hf
        refine xV_sub [] rfl ?_
        exact ok_Jt_isAhead_37 hf kr
      · have hf := xo_neg c_ hf
        refine xr_iconst (pc := 33) dX6_isAhead_33 xci_1 ?_
        refine xr_goto (pc := 34) 38 dX6_isAhead_34 (by decide) ?_
        rw [kr _ (Option.some.inj hf).symm]
        exact xr_zret (pc := 38) dX6_isAhead_38 rfl xz_1
theorem met_f_t_isAhead (l : Launch) {D : TD} {m : Nat} {x1 : Int32} {x2 : Int32} {x3 : Int32} {τ : TS} {o_ : (Int32 × TS)} (hf : f_t_isAhead x1 x2 x3 τ = some o_) : xMet (wT D m) l yX6_isAhead (ws_ yX6_isAhead cX6_isAhead 4 (some .boolean)) 1 60 0 0 [.ref m, .int x1, .int x2, .int x3] τ (some (.int o_.1), o_.2) :=
  xMet_of (by decide) (Nat.le_of_ble_eq_true rfl) KT_moved (fun _ _ => trivial) (fun K _ _ _ => ok_f_t_isAhead hf (fun _ h => by rw [h]))
theorem hd_f_t_isAhead : yX6_isAhead.cls = RX6 ∧ yX6_isAhead.cls ≠ "java/lang/invoke/MethodHandle" ∧ yX6_isAhead.cls ≠ "java/lang/invoke/VarHandle" ∧ (parseMethodDescriptor yX6_isAhead.desc).map (fun d => d.parameters.length) = some 3 := by decide +kernel
theorem call_f_t_isAhead {D : TD} {m : Nat} {K : xK} {M : xM} {Q : State → Prop} {x1 : Int32} {x2 : Int32} {x3 : Int32} {τ : TS} {pc : Nat} {loc : List (Nat × Value)} {st : List Value} {r : Int32} {τ1 : TS} (hf : f_t_isAhead x1 x2 x3 τ = some (r, τ1)) (ho : M.2.2.1 = RX6) (hfr : 2 ≤ M.2.2.2.1) (hlo : 83 ≤ M.2.2.2.2.1) (hcat : (st.map fun v => v.category).sum ≤ 8) (d : decode M.1 pc = .ok (.invokevirtual 605, 3)) (k : xV (wT D m) K M Q τ1 (pc + 3) loc (.int r :: st)) : xV (wT D m) K M Q τ pc loc (.int x3 :: .int x2 :: .int x1 :: .ref m :: st) :=
  xr_callV (As := [.int x1, .int x2, .int x3]) (rest := st) (met_f_t_isAhead K.2.1 hf) (lw_V q2493 q2495 qs135 q186 q2496) hd_f_t_isAhead ho hfr hlo rfl (fun H hR hK => t_recv H hR hK) rfl hcat d k
abbrev mX6_putsAside : xM := (cX6_putsAside, 2, RX6, 0, 0, none, "putsAside")
def Bt_putsAside_7 (x1 : Int32) (τ : TS) : Option ((Int32 × TS) ⊕ ((TS))) :=
  if 182 ≤ x1 then
  some (.inr τ)
  else
  if xin x1 303 = true then
  if xin x1 182 = true then
  some (.inl (x1 + 1, sA τ 63 x1.toNatClampNeg (tA τ 62 x1.toNatClampNeg)))
  else none
  else none
theorem ok_Bt_putsAside_7 {D : TD} {m : Nat} {K : xK} {Z : Option Value × TS} {x1 : Int32} {τ : TS} {o_ : ((Int32 × TS) ⊕ ((TS)))} (hf : Bt_putsAside_7 x1 τ = some o_) (kc : ∀ s_ : Int32 × TS, o_ = .inl s_ → xV (wT D m) K mX6_putsAside (xQ (wT D m) K Z) s_.2 7 [(0, .ref m), (1, .int s_.1)] []) (ke0 : ∀ e_ : TS, o_ = .inr e_ → xV (wT D m) K mX6_putsAside (xQ (wT D m) K Z) e_ 32 [] []) : xV (wT D m) K mX6_putsAside (xQ (wT D m) K Z) τ 7 [(0, .ref m), (1, .int x1)] [] := by
  unfold Bt_putsAside_7 at hf
  refine xr_iload_n (pc := 7) 1 dX6_putsAside_7 rfl rfl ?_
  refine xr_sipush (pc := 8) dX6_putsAside_8 xcs_182 ?_
  refine xr_icmp_ge (pc := 11) 32 dX6_putsAside_11 (by decide) (fun c_ => ?_) (fun c_ => ?_)
  · have hf := xo_pos c_ hf
    refine xV_sub [] rfl ?_
    exact ke0 _ (Option.some.inj hf).symm
  · have hf := xo_neg c_ hf
    refine xr_aload_n (pc := 14) 0 dX6_putsAside_14 rfl rfl ?_
    refine xt_getA (pc := 15) 63 (by decide) q1809 rfl rfl rfl dX6_putsAside_15 ?_
    refine xr_iload_n (pc := 18) 1 dX6_putsAside_18 rfl rfl ?_
    refine xr_aload_n (pc := 19) 0 dX6_putsAside_19 rfl rfl ?_
    refine xt_getA (pc := 20) 62 (by decide) q1808 rfl rfl rfl dX6_putsAside_20 ?_
    refine xr_iload_n (pc := 23) 1 dX6_putsAside_23 rfl rfl ?_
    obtain ⟨hi_, hf⟩ := xo_if hf
    refine xt_iald (pc := 24) 62 rfl rfl hi_ dX6_putsAside_24 ?_
    obtain ⟨hi_, hf⟩ := xo_if hf
    refine xt_iast (pc := 25) 63 rfl rfl hi_ dX6_putsAside_25 ?_
    refine xr_iinc (pc := 26) (loc' := [(1, .int (x1 + 1)), (0, .ref m)]) 1 dX6_putsAside_26 rfl xci_1 (by decide) rfl ?_
    refine xr_goto (pc := 29) 7 dX6_putsAside_29 (by decide) ?_
    refine xV_sub [1, 0] rfl ?_
    exact kc _ (Option.some.inj hf).symm
def f_t_putsAside (τ : TS) : Option TS :=
  (itr (fun s_ : Int32 × TS => Bt_putsAside_7 s_.1 s_.2) 4096 (0, sI τ 70 1)).bind fun b1 =>
  some (b1)
theorem ok_f_t_putsAside {D : TD} {m : Nat} {K : xK} {Z : Option Value × TS} {τ : TS} {o_ : TS} (hf : f_t_putsAside τ = some o_) (kr : ∀ r_ : TS, o_ = r_ → Z = (none, r_)) : xV (wT D m) K mX6_putsAside (xQ (wT D m) K Z) τ 0 [(0, .ref m)] [] := by
  unfold f_t_putsAside at hf
  refine xr_aload_n (pc := 0) 0 dX6_putsAside_0 rfl rfl ?_
  refine xr_iconst (pc := 1) dX6_putsAside_1 xci_1 ?_
  refine xt_putZ (pc := 2) 70 (by decide) q1816 rfl rfl rfl (by decide +kernel) (by decide) (by decide) rfl dX6_putsAside_2 ?_
  refine xr_iconst (pc := 5) dX6_putsAside_5 xci_0 ?_
  refine xr_istore_n (pc := 6) (loc' := [(1, .int 0), (0, .ref m)]) dX6_putsAside_6 rfl (by decide) rfl ?_
  refine xV_sub [1, 0] rfl ?_
  obtain ⟨b1, hb1, hf⟩ := xo_bind hf
  refine itr_rule (P := fun s_ : Int32 × TS => xV (wT D m) K mX6_putsAside (xQ (wT D m) K Z) s_.2 7 [(0, .ref m), (1, .int s_.1)] []) (fun s_ o_ hB_ hc_ he_ => ok_Bt_putsAside_7 hB_ hc_ (fun e_ h_ => ?_)) 4096 _ hb1
  · have e9_ := he_ _ h_
    rw [e9_]
    rw [kr _ (Option.some.inj hf).symm]
    exact xr_vret (pc := 32) dX6_putsAside_32 rfl
theorem met_f_t_putsAside (l : Launch) {D : TD} {m : Nat} {τ : TS} {o_ : TS} (hf : f_t_putsAside τ = some o_) : xMet (wT D m) l yX6_putsAside (ws_ yX6_putsAside cX6_putsAside 2 none) 0 0 0 0 [.ref m] τ (none, o_) :=
  xMet_of (by decide) (Nat.le_of_ble_eq_true rfl) KT_moved (fun _ _ => trivial) (fun K _ _ _ => ok_f_t_putsAside hf (fun _ h => by rw [h]))
theorem hd_f_t_putsAside : yX6_putsAside.cls = RX6 ∧ yX6_putsAside.cls ≠ "java/lang/invoke/MethodHandle" ∧ yX6_putsAside.cls ≠ "java/lang/invoke/VarHandle" ∧ (parseMethodDescriptor yX6_putsAside.desc).map (fun d => d.parameters.length) = some 0 := by decide +kernel
theorem call_f_t_putsAside {D : TD} {m : Nat} {K : xK} {M : xM} {Q : State → Prop} {τ : TS} {pc : Nat} {loc : List (Nat × Value)} {st : List Value} {τ1 : TS} (hf : f_t_putsAside τ = some τ1) (ho : M.2.2.1 = RX6) (hfr : 1 ≤ M.2.2.2.1) (hlo : 21 ≤ M.2.2.2.2.1) (hcat : (st.map fun v => v.category).sum ≤ 8) (d : decode M.1 pc = .ok (.invokevirtual 609, 3)) (k : xV (wT D m) K M Q τ1 (pc + 3) loc st) : xV (wT D m) K M Q τ pc loc (.ref m :: st) :=
  xr_callV (As := []) (rest := st) (met_f_t_putsAside K.2.1 hf) (lw_V q2497 q2499 qs136 q186 q2500) hd_f_t_putsAside ho hfr hlo rfl (fun H hR hK => t_recv H hR hK) rfl hcat d k
abbrev mX6_isNear : xM := (cX6_isNear, 5, RX6, 2, 120, (some .boolean), "isNear")
def Jt_isNear_78 (τ : TS) : Option (Int32 × TS) :=
  some ((1, τ))
theorem ok_Jt_isNear_78 {D : TD} {m : Nat} {K : xK} {Z : Option Value × TS} {τ : TS} {o_ : (Int32 × TS)} (hf : Jt_isNear_78 τ = some o_) (kr : ∀ r_ : (Int32 × TS), o_ = r_ → Z = (some (.int r_.1), r_.2)) : xV (wT D m) K mX6_isNear (xQ (wT D m) K Z) τ 78 [] [] := by
  unfold Jt_isNear_78 at hf
  refine xr_iconst (pc := 78) dX6_isNear_78 xci_1 ?_
  refine xr_goto (pc := 79) 83 dX6_isNear_79 (by decide) ?_
  rw [kr _ (Option.some.inj hf).symm]
  exact xr_zret (pc := 83) dX6_isNear_83 rfl xz_1
def Jt_isNear_82 (τ : TS) : Option (Int32 × TS) :=
  some ((0, τ))
theorem ok_Jt_isNear_82 {D : TD} {m : Nat} {K : xK} {Z : Option Value × TS} {τ : TS} {o_ : (Int32 × TS)} (hf : Jt_isNear_82 τ = some o_) (kr : ∀ r_ : (Int32 × TS), o_ = r_ → Z = (some (.int r_.1), r_.2)) : xV (wT D m) K mX6_isNear (xQ (wT D m) K Z) τ 82 [] [] := by
  unfold Jt_isNear_82 at hf
  refine xr_iconst (pc := 82) dX6_isNear_82 xci_0 ?_
  rw [kr _ (Option.some.inj hf).symm]
  exact xr_zret (pc := 83) dX6_isNear_83 rfl xz_0
def Jt_isNear_44 (x1 : Int32) (x4 : Int32) (τ : TS) : Option (Int32 × TS) :=
  xbd (f_t_columnMany τ) fun r3 τ3 =>
  if x1 = (r3 - 1) then
  Jt_isNear_78 τ3
  else
  if xin 5 6 = true then
  if xin 5 6 = true then
  xbd (f_t_isIn x4.toInt64 ((-(tA τ3 45 (5 : Int32).toNatClampNeg)).toInt64) ((tA τ3 45 (5 : Int32).toNatClampNeg).toInt64) τ3) fun r4 τ4 =>
  if r4 = 0 then
  Jt_isNear_82 τ4
  else
  Jt_isNear_78 τ4
  else none
  else none
theorem ok_Jt_isNear_44 {D : TD} {m : Nat} {K : xK} {Z : Option Value × TS} {x1 : Int32} {x4 : Int32} {τ : TS} {o_ : (Int32 × TS)} (hf : Jt_isNear_44 x1 x4 τ = some o_) (kr : ∀ r_ : (Int32 × TS), o_ = r_ → Z = (some (.int r_.1), r_.2)) : xV (wT D m) K mX6_isNear (xQ (wT D m) K Z) τ 44 [(0, .ref m), (1, .int x1), (4, .int x4)] [] := by
  unfold Jt_isNear_44 at hf
  refine xr_iload_n (pc := 44) 1 dX6_isNear_44 rfl rfl ?_
  refine xr_aload_n (pc := 45) 0 dX6_isNear_45 rfl rfl ?_
  obtain ⟨r3, τ3, hτ3, hf⟩ := xo_bd hf
  refine call_f_t_columnMany (pc := 46) hτ3 rfl (Nat.le_of_ble_eq_true rfl) (Nat.le_of_ble_eq_true rfl) (Nat.le_of_ble_eq_true rfl) dX6_isNear_46 ?_
  refine xr_iconst (pc := 49) dX6_isNear_49 xci_1 ?_
  refine xr_isub (pc := 50) dX6_isNear_50 ?_
  refine xr_icmp_eq (pc := 51) 78 dX6_isNear_51 (by decide) (fun c_ => ?_) (fun c_ => ?_)
  · have hf := xo_pos c_ hf
    refine xV_sub [] rfl ?_
    exact ok_Jt_isNear_78 hf kr
  · have hf := xo_neg c_ hf
    refine xr_iload (pc := 54) 2 dX6_isNear_54 rfl ?_
    refine xr_i2l (pc := 56) dX6_isNear_56 ?_
    refine xr_aload_n (pc := 57) 0 dX6_isNear_57 rfl rfl ?_
    refine xt_getA (pc := 58) 45 (by decide) q1791 rfl rfl rfl dX6_isNear_58 ?_
    refine xr_iconst (pc := 61) dX6_isNear_61 xci_5 ?_
    obtain ⟨hi_, hf⟩ := xo_if hf
    refine xt_iald (pc := 62) 45 rfl rfl hi_ dX6_isNear_62 ?_
    refine xr_ineg (pc := 63) dX6_isNear_63 ?_
    refine xr_i2l (pc := 64) dX6_isNear_64 ?_
    refine xr_aload_n (pc := 65) 0 dX6_isNear_65 rfl rfl ?_
    refine xt_getA (pc := 66) 45 (by decide) q1791 rfl rfl rfl dX6_isNear_66 ?_
    refine xr_iconst (pc := 69) dX6_isNear_69 xci_5 ?_
    obtain ⟨hi_, hf⟩ := xo_if hf
    refine xt_iald (pc := 70) 45 rfl rfl hi_ dX6_isNear_70 ?_
    refine xr_i2l (pc := 71) dX6_isNear_71 ?_
    obtain ⟨r4, τ4, hτ4, hf⟩ := xo_bd hf
    refine call_f_t_isIn (pc := 72) hτ4 rfl (Nat.le_of_ble_eq_true rfl) (Nat.le_of_ble_eq_true rfl) (Nat.le_of_ble_eq_true rfl) dX6_isNear_72 ?_
    refine xr_if_eq (pc := 75) 82 dX6_isNear_75 (by decide) (fun c_ => ?_) (fun c_ => ?_)
    · have hf := xo_pos c_ hf
      refine xV_sub [] rfl ?_
      exact ok_Jt_isNear_82 hf kr
    · have hf := xo_neg c_ hf
      refine xV_sub [] rfl ?_
      exact ok_Jt_isNear_78 hf kr
def f_t_isNear (x1 : Int32) (x2 : Int32) (τ : TS) : Option (Int32 × TS) :=
  xbd (f_t_beforeOf x1 τ) fun r1 τ1 =>
  xbd (f_t_behindOf x1 τ1) fun r2 τ2 =>
  if x1 = 0 then
  Jt_isNear_44 x1 (r2 - x2) τ2
  else
  if xin 5 6 = true then
  if xin 5 6 = true then
  xbd (f_t_isIn ((r1 - x2).toInt64) ((-(tA τ2 45 (5 : Int32).toNatClampNeg)).toInt64) ((tA τ2 45 (5 : Int32).toNatClampNeg).toInt64) τ2) fun r5 τ5 =>
  if r5 = 0 then
  Jt_isNear_82 τ5
  else
  Jt_isNear_44 x1 (r2 - x2) τ5
  else none
  else none
theorem ok_f_t_isNear {D : TD} {m : Nat} {K : xK} {Z : Option Value × TS} {x1 : Int32} {x2 : Int32} {τ : TS} {o_ : (Int32 × TS)} (hf : f_t_isNear x1 x2 τ = some o_) (kr : ∀ r_ : (Int32 × TS), o_ = r_ → Z = (some (.int r_.1), r_.2)) : xV (wT D m) K mX6_isNear (xQ (wT D m) K Z) τ 0 [(0, .ref m), (1, .int x1), (2, .int x2)] [] := by
  unfold f_t_isNear at hf
  refine xr_aload_n (pc := 0) 0 dX6_isNear_0 rfl rfl ?_
  refine xr_iload_n (pc := 1) 1 dX6_isNear_1 rfl rfl ?_
  obtain ⟨r1, τ1, hτ1, hf⟩ := xo_bd hf
  refine call_f_t_beforeOf (pc := 2) hτ1 rfl (Nat.le_of_ble_eq_true rfl) (Nat.le_of_ble_eq_true rfl) (Nat.le_of_ble_eq_true rfl) dX6_isNear_2 ?_
  refine xr_iload_n (pc := 5) 2 dX6_isNear_5 rfl rfl ?_
  refine xr_isub (pc := 6) dX6_isNear_6 ?_
  refine xr_istore_n (pc := 7) (loc' := [(3, .int (r1 - x2)), (0, .ref m), (1, .int x1), (2, .int x2)]) dX6_isNear_7 rfl (by decide) rfl ?_
  refine xr_aload_n (pc := 8) 1 dX6_isNear_8 rfl rfl ?_
  refine xr_iload_n (pc := 9) 2 dX6_isNear_9 rfl rfl ?_
  obtain ⟨r2, τ2, hτ2, hf⟩ := xo_bd hf
  refine call_f_t_behindOf (pc := 10) hτ2 rfl (Nat.le_of_ble_eq_true rfl) (Nat.le_of_ble_eq_true rfl) (Nat.le_of_ble_eq_true rfl) dX6_isNear_10 ?_
  refine xr_iload_n (pc := 13) 3 dX6_isNear_13 rfl rfl ?_
  refine xr_isub (pc := 14) dX6_isNear_14 ?_
  refine xr_istore (pc := 15) (loc' := [(4, .int (r2 - x2)), (3, .int (r1 - x2)), (0, .ref m), (1, .int x1), (2, .int x2)]) dX6_isNear_15 (by decide) rfl ?_
  refine xr_iload_n (pc := 17) 3 dX6_isNear_17 rfl rfl ?_
  refine xr_if_eq (pc := 18) 44 dX6_isNear_18 (by decide) (fun c_ => ?_) (fun c_ => ?_)
  · have hf := xo_pos c_ hf
    refine xV_sub [2, 3, 0] rfl ?_
    exact ok_Jt_isNear_44 hf kr
  · have hf := xo_neg c_ hf
    refine xr_iload_n (pc := 21) 1 dX6_isNear_21 rfl rfl ?_
    refine xr_i2l (pc := 22) dX6_isNear_22 ?_
    refine xr_aload_n (pc := 23) 2 dX6_isNear_23 rfl rfl ?_
    refine xt_getA (pc := 24) 45 (by decide) q1791 rfl rfl rfl dX6_isNear_24 ?_
    refine xr_iconst (pc := 27) dX6_isNear_27 xci_5 ?_
    obtain ⟨hi_, hf⟩ := xo_if hf
    refine xt_iald (pc := 28) 45 rfl rfl hi_ dX6_isNear_28 ?_
    refine xr_ineg (pc := 29) dX6_isNear_29 ?_
    refine xr_i2l (pc := 30) dX6_isNear_30 ?_
    refine xr_aload_n (pc := 31) 2 dX6_isNear_31 rfl rfl ?_
    refine xt_getA (pc := 32) 45 (by decide) q1791 rfl rfl rfl dX6_isNear_32 ?_
    refine xr_iconst (pc := 35) dX6_isNear_35 xci_5 ?_
    obtain ⟨hi_, hf⟩ := xo_if hf
    refine xt_iald (pc := 36) 45 rfl rfl hi_ dX6_isNear_36 ?_
    refine xr_i2l (pc := 37) dX6_isNear_37 ?_
    obtain ⟨r5, τ5, hτ5, hf⟩ := xo_bd hf
    refine call_f_t_isIn (pc := 38) hτ5 rfl (Nat.le_of_ble_eq_true rfl) (Nat.le_of_ble_eq_true rfl) (Nat.le_of_ble_eq_true rfl) dX6_isNear_38 ?_
    refine xr_if_eq (pc := 41) 82 dX6_isNear_41 (by decide) (fun c_ => ?_) (fun c_ => ?_)
    · have hf := xo_pos c_ hf
      refine xV_sub [] rfl ?_
      exact ok_Jt_isNear_82 hf kr
    · have hf := xo_neg c_ hf
      refine xV_sub [2, 3, 0] rfl ?_
      exact ok_Jt_isNear_44 hf kr
theorem met_f_t_isNear (l : Launch) {D : TD} {m : Nat} {x1 : Int32} {x2 : Int32} {τ : TS} {o_ : (Int32 × TS)} (hf : f_t_isNear x1 x2 τ = some o_) : xMet (wT D m) l yX6_isNear (ws_ yX6_isNear cX6_isNear 5 (some .boolean)) 2 120 0 0 [.ref m, .int x1, .int x2] τ (some (.int o_.1), o_.2) :=
  xMet_of (by decide) (Nat.le_of_ble_eq_true rfl) KT_moved (fun _ _ => trivial) (fun K _ _ _ => ok_f_t_isNear hf (fun _ h => by rw [h]))
theorem hd_f_t_isNear : yX6_isNear.cls = RX6 ∧ yX6_isNear.cls ≠ "java/lang/invoke/MethodHandle" ∧ yX6_isNear.cls ≠ "java/lang/invoke/VarHandle" ∧ (parseMethodDescriptor yX6_isNear.desc).map (fun d => d.parameters.length) = some 2 := by decide +kernel
theorem call_f_t_isNear {D : TD} {m : Nat} {K : xK} {M : xM} {Q : State → Prop} {x1 : Int32} {x2 : Int32} {τ : TS} {pc : Nat} {loc : List (Nat × Value)} {st : List Value} {r : Int32} {τ1 : TS} (hf : f_t_isNear x1 x2 τ = some (r, τ1)) (ho : M.2.2.1 = RX6) (hfr : 3 ≤ M.2.2.2.1) (hlo : 144 ≤ M.2.2.2.2.1) (hcat : (st.map fun v => v.category).sum ≤ 8) (d : decode M.1 pc = .ok (.invokevirtual 551, 3)) (k : xV (wT D m) K M Q τ1 (pc + 3) loc (.int r :: st)) : xV (wT D m) K M Q τ pc loc (.int x2 :: .int x1 :: .ref m :: st) :=
  xr_callV (As := [.int x1, .int x2]) (rest := st) (met_f_t_isNear K.2.1 hf) (lw_V q2513 q2515 qs140 q186 q2516) hd_f_t_isNear ho hfr hlo rfl (fun H hR hK => t_recv H hR hK) rfl hcat d k
abbrev mX6_columnMoves : xM := (cX6_columnMoves, 8, RX6, 6, 360, none, "columnMoves")
def Jt_columnMoves_80 (x1 : Int32) (x2 : Int32) (x3 : Int64) (x5 : Int32) (τ : TS) : Option ((Int32 × Int64 × Int32 × TS) ⊕ ((Int32 × TS))) :=
  some (.inl (x2, x3, x5 + 2, τ))
theorem ok_Jt_columnMoves_80 {D : TD} {m : Nat} {K : xK} {Z : Option Value × TS} {x1 : Int32} {x2 : Int32} {x3 : Int64} {x5 : Int32} {τ : TS} {o_ : ((Int32 × Int64 × Int32 × TS) ⊕ ((Int32 × TS)))} (hf : Jt_columnMoves_80 x1 x2 x3 x5 τ = some o_) (kc : ∀ s_ : Int32 × Int64 × Int32 × TS, o_ = .inl s_ → xV (wT D m) K mX6_columnMoves (xQ (wT D m) K Z) s_.2.2.2 13 [(0, .ref m), (1, .int x1), (2, .int s_.1), (3, .long s_.2.1), (5, .int s_.2.2.1)] []) (ke0 : ∀ e_ : Int32 × TS, o_ = .inr e_ → xV (wT D m) K mX6_columnMoves (xQ (wT D m) K Z) e_.2 86 [(0, .ref m), (1, .int x1), (2, .int e_.1)] []) : xV (wT D m) K mX6_columnMoves (xQ (wT D m) K Z) τ 80 [(0, .ref m), (1, .int x1), (2, .int x2), (3, .long x3), (5, .int x5)] [] := by
  unfold Jt_columnMoves_80 at hf
  refine xr_iinc (pc := 80) (loc' := [(5, .int (x5 + 2)), (0, .ref m), (1, .int x1), (2, .int x2), (3, .long x3)]) 4 dX6_columnMoves_80 rfl xci_2 (by decide) rfl ?_
  refine xr_goto (pc := 83) 13 dX6_columnMoves_83 (by decide) ?_
  refine xV_sub [1, 2, 3, 4, 0] rfl ?_
  exact kc _ (Option.some.inj hf).symm
def Bt_columnMoves_13 (x1 : Int32) (x2 : Int32) (x3 : Int64) (x5 : Int32) (τ : TS) : Option ((Int32 × Int64 × Int32 × TS) ⊕ ((Int32 × TS))) :=
  xbd (f_t_rowOf x1 τ) fun r2 τ2 =>
  if (r2 + 1) < x5 then
  some (.inr (x2, τ2))
  else
  xbd (f_t_rowsMany τ2) fun r3 τ3 =>
  xbd (f_t_isIn x5.toInt64 0 ((r3 - 1).toInt64) τ3) fun r4 τ4 =>
  if r4 = 0 then
  Jt_columnMoves_80 x1 x2 x3 x5 τ4
  else
  xbd (f_t_isNear x1 x5 τ4) fun r5 τ5 =>
  if r5 = 0 then
  Jt_columnMoves_80 x1 x2 x3 x5 τ5
  else
  xbd (f_t_eatsOf x1 x5 τ5) fun r6 τ6 =>
  if 0 < (lg_cmp r6 x3) then
  Jt_columnMoves_80 x1 x5 r6 x5 τ6
  else
  Jt_columnMoves_80 x1 x2 x3 x5 τ6
theorem ok_Bt_columnMoves_13 {D : TD} {m : Nat} {K : xK} {Z : Option Value × TS} {x1 : Int32} {x2 : Int32} {x3 : Int64} {x5 : Int32} {τ : TS} {o_ : ((Int32 × Int64 × Int32 × TS) ⊕ ((Int32 × TS)))} (hf : Bt_columnMoves_13 x1 x2 x3 x5 τ = some o_) (kc : ∀ s_ : Int32 × Int64 × Int32 × TS, o_ = .inl s_ → xV (wT D m) K mX6_columnMoves (xQ (wT D m) K Z) s_.2.2.2 13 [(0, .ref m), (1, .int x1), (2, .int s_.1), (3, .long s_.2.1), (5, .int s_.2.2.1)] []) (ke0 : ∀ e_ : Int32 × TS, o_ = .inr e_ → xV (wT D m) K mX6_columnMoves (xQ (wT D m) K Z) e_.2 86 [(0, .ref m), (1, .int x1), (2, .int e_.1)] []) : xV (wT D m) K mX6_columnMoves (xQ (wT D m) K Z) τ 13 [(0, .ref m), (1, .int x1), (2, .int x2), (3, .long x3), (5, .int x5)] [] := by
  unfold Bt_columnMoves_13 at hf
  refine xr_iload (pc := 13) 4 dX6_columnMoves_13 rfl ?_
  refine xr_aload_n (pc := 15) 0 dX6_columnMoves_15 rfl rfl ?_
  refine xr_iload_n (pc := 16) 1 dX6_columnMoves_16 rfl rfl ?_
  obtain ⟨r2, τ2, hτ2, hf⟩ := xo_bd hf
  refine call_f_t_rowOf (pc := 17) hτ2 rfl (Nat.le_of_ble_eq_true rfl) (Nat.le_of_ble_eq_true rfl) (Nat.le_of_ble_eq_true rfl) dX6_columnMoves_17 ?_
  refine xr_iconst (pc := 20) dX6_columnMoves_20 xci_1 ?_
  refine xr_iadd (pc := 21) dX6_columnMoves_21 ?_
  refine xr_icmp_gt (pc := 22) 86 dX6_columnMoves_22 (by decide) (fun c_ => ?_) (fun c_ => ?_)
  · have hf := xo_pos c_ hf
    refine xV_sub [0, 1, 2] rfl ?_
    exact ke0 _ (Option.some.inj hf).symm
  · have hf := xo_neg c_ hf
    refine xr_iload (pc := 25) 4 dX6_columnMoves_25 rfl ?_
    refine xr_i2l (pc := 27) dX6_columnMoves_27 ?_
    refine xr_lconst (pc := 28) dX6_columnMoves_28 (by decide : _ = (0 : Int64)) ?_
    refine xr_aload_n (pc := 29) 0 dX6_columnMoves_29 rfl rfl ?_
    obtain ⟨r3, τ3, hτ3, hf⟩ := xo_bd hf
    refine call_f_t_rowsMany (pc := 30) hτ3 rfl (Nat.le_of_ble_eq_true rfl) (Nat.le_of_ble_eq_true rfl) (Nat.le_of_ble_eq_true rfl) dX6_columnMoves_30 ?_
    refine xr_iconst (pc := 33) dX6_columnMoves_33 xci_1 ?_
    refine xr_isub (pc := 34) dX6_columnMoves_34 ?_
    refine xr_i2l (pc := 35) dX6_columnMoves_35 ?_
    obtain ⟨r4, τ4, hτ4, hf⟩ := xo_bd hf
    refine call_f_t_isIn (pc := 36) hτ4 rfl (Nat.le_of_ble_eq_true rfl) (Nat.le_of_ble_eq_true rfl) (Nat.le_of_ble_eq_true rfl) dX6_columnMoves_36 ?_
    refine xr_if_eq (pc := 39) 80 dX6_columnMoves_39 (by decide) (fun c_ => ?_) (fun c_ => ?_)
    · have hf := xo_pos c_ hf
      exact ok_Jt_columnMoves_80 hf kc ke0
    · have hf := xo_neg c_ hf
      refine xr_aload_n (pc := 42) 0 dX6_columnMoves_42 rfl rfl ?_
      refine xr_iload_n (pc := 43) 1 dX6_columnMoves_43 rfl rfl ?_
      refine xr_iload (pc := 44) 4 dX6_columnMoves_44 rfl ?_
      obtain ⟨r5, τ5, hτ5, hf⟩ := xo_bd hf
      refine call_f_t_isNear (pc := 46) hτ5 rfl (Nat.le_of_ble_eq_true rfl) (Nat.le_of_ble_eq_true rfl) (Nat.le_of_ble_eq_true rfl) dX6_columnMoves_46 ?_
      refine xr_if_ne (pc := 49) 55 dX6_columnMoves_49 (by decide) (fun c_ => ?_) (fun c_ => ?_)
      · have hf := xo_pos c_ hf
        refine xr_goto (pc := 52) 80 dX6_columnMoves_52 (by decide) ?_
        exact ok_Jt_columnMoves_80 hf kc ke0
      · have hf := xo_neg c_ hf
        refine xr_aload_n (pc := 55) 0 dX6_columnMoves_55 rfl rfl ?_
        refine xr_iload_n (pc := 56) 1 dX6_columnMoves_56 rfl rfl ?_
        refine xr_iload (pc := 57) 4 dX6_columnMoves_57 rfl ?_
        obtain ⟨r6, τ6, hτ6, hf⟩ := xo_bd hf
        refine call_f_t_eatsOf (pc := 59) hτ6 rfl (Nat.le_of_ble_eq_true rfl) (Nat.le_of_ble_eq_true rfl) (Nat.le_of_ble_eq_true rfl) dX6_columnMoves_59 ?_
        refine xr_lstore (pc := 62) (loc' := [(6, .long r6), (0, .ref m), (1, .int x1), (2, .int x2), (3, .long x3), (5, .int x5)]) dX6_columnMoves_62 (by decide) rfl ?_
        refine xr_lload (pc := 64) 0 dX6_columnMoves_64 rfl ?_
        refine xr_lload_n (pc := 66) 4 dX6_columnMoves_66 rfl rfl ?_
        refine xr_lcmp (pc := 67) dX6_columnMoves_67 ?_
        refine xr_if_gt (pc := 68) 74 dX6_columnMoves_68 (by decide) (fun c_ => ?_) (fun c_ => ?_)
        · have hf := xo_pos c_ hf
          refine xr_iload (pc := 74) 5 dX6_columnMoves_74 rfl ?_
          refine xr_istore_n (pc := 76) (loc' := [(2, .int x5), (6, .long r6), (0, .ref m), (1, .int x1), (3, .long x3), (5, .int x5)]) dX6_columnMoves_76 rfl (by decide) rfl ?_
          refine xr_lload (pc := 77) 1 dX6_columnMoves_77 rfl ?_
          refine xr_lstore_n (pc := 79) (loc' := [(3, .long r6), (2, .int x5), (6, .long r6), (0, .ref m), (1, .int x1), (5, .int x5)]) dX6_columnMoves_79 rfl (by decide) rfl ?_
          refine xV_sub [3, 4, 1, 0, 5] rfl ?_
          exact ok_Jt_columnMoves_80 hf kc ke0
        · have hf := xo_neg c_ hf
          refine xr_goto (pc := 71) 80 dX6_columnMoves_71 (by decide) ?_
          refine xV_sub [1, 2, 3, 4, 5] rfl ?_
          exact ok_Jt_columnMoves_80 hf kc ke0
def f_t_columnMoves (x1 : Int32) (τ : TS) : Option TS :=
  xbd (f_t_rowOf x1 τ) fun r1 τ1 =>
  (itr (fun s_ : Int32 × Int64 × Int32 × TS => Bt_columnMoves_13 x1 s_.1 s_.2.1 s_.2.2.1 s_.2.2.2) 4096 ((-1), 0, r1 - 1, τ1)).bind fun b7 =>
  if b7.1 = (-1) then
  some (b7.2)
  else
  if xin (2 + x1) 303 = true then
  some (sA b7.2 62 (2 + x1).toNatClampNeg b7.1)
  else none
theorem ok_f_t_columnMoves {D : TD} {m : Nat} {K : xK} {Z : Option Value × TS} {x1 : Int32} {τ : TS} {o_ : TS} (hf : f_t_columnMoves x1 τ = some o_) (kr : ∀ r_ : TS, o_ = r_ → Z = (none, r_)) : xV (wT D m) K mX6_columnMoves (xQ (wT D m) K Z) τ 0 [(0, .ref m), (1, .int x1)] [] := by
  unfold f_t_columnMoves at hf
  refine xr_iconst (pc := 0) dX6_columnMoves_0 xci_m1 ?_
  refine xr_istore_n (pc := 1) (loc' := [(2, .int (-1)), (0, .ref m), (1, .int x1)]) dX6_columnMoves_1 rfl (by decide) rfl ?_
  refine xr_lconst (pc := 2) dX6_columnMoves_2 (by decide : _ = (0 : Int64)) ?_
  refine xr_lstore_n (pc := 3) (loc' := [(3, .long 0), (2, .int (-1)), (0, .ref m), (1, .int x1)]) dX6_columnMoves_3 rfl (by decide) rfl ?_
  refine xr_aload_n (pc := 4) 2 dX6_columnMoves_4 rfl rfl ?_
  refine xr_iload_n (pc := 5) 3 dX6_columnMoves_5 rfl rfl ?_
  obtain ⟨r1, τ1, hτ1, hf⟩ := xo_bd hf
  refine call_f_t_rowOf (pc := 6) hτ1 rfl (Nat.le_of_ble_eq_true rfl) (Nat.le_of_ble_eq_true rfl) (Nat.le_of_ble_eq_true rfl) dX6_columnMoves_6 ?_
  refine xr_iconst (pc := 9) dX6_columnMoves_9 xci_1 ?_
  refine xr_isub (pc := 10) dX6_columnMoves_10 ?_
  refine xr_istore (pc := 11) (loc' := [(5, .int (r1 - 1)), (3, .long 0), (2, .int (-1)), (0, .ref m), (1, .int x1)]) dX6_columnMoves_11 (by decide) rfl ?_
  refine xV_sub [3, 4, 2, 1, 0] rfl ?_
  obtain ⟨b7, hb7, hf⟩ := xo_bind hf
  refine itr_rule (P := fun s_ : Int32 × Int64 × Int32 × TS => xV (wT D m) K mX6_columnMoves (xQ (wT D m) K Z) s_.2.2.2 13 [(0, .ref m), (1, .int x1), (2, .int s_.1), (3, .long s_.2.1), (5, .int s_.2.2.1)] []) (fun s_ o_ hB_ hc_ he_ => ok_Bt_columnMoves_13 hB_ hc_ (fun e_ h_ => ?_)) 4096 _ hb7
  · have e9_ := he_ _ h_
    rw [e9_]
    refine xr_iload_n (pc := 86) 2 dX6_columnMoves_86 rfl rfl ?_
    refine xr_iconst (pc := 87) dX6_columnMoves_87 xci_m1 ?_
    refine xr_icmp_eq (pc := 88) 100 dX6_columnMoves_88 (by decide) (fun c_ => ?_) (fun c_ => ?_)
    · have hf := xo_pos c_ hf
      rw [kr _ (Option.some.inj hf).symm]
      exact xr_vret (pc := 100) dX6_columnMoves_100 rfl
    · have hf := xo_neg c_ hf
      refine xr_aload_n (pc := 91) 0 dX6_columnMoves_91 rfl rfl ?_
      refine xt_getA (pc := 92) 62 (by decide) q1808 rfl rfl rfl dX6_columnMoves_92 ?_
      refine xr_iconst (pc := 95) dX6_columnMoves_95 xci_2 ?_
      refine xr_iload_n (pc := 96) 1 dX6_columnMoves_96 rfl rfl ?_
      refine xr_iadd (pc := 97) dX6_columnMoves_97 ?_
      refine xr_iload_n (pc := 98) 2 dX6_columnMoves_98 rfl rfl ?_
      obtain ⟨hi_, hf⟩ := xo_if hf
      refine xt_iast (pc := 99) 62 rfl rfl hi_ dX6_columnMoves_99 ?_
      rw [kr _ (Option.some.inj hf).symm]
      exact xr_vret (pc := 100) dX6_columnMoves_100 rfl
theorem met_f_t_columnMoves (l : Launch) {D : TD} {m : Nat} {x1 : Int32} {τ : TS} {o_ : TS} (hf : f_t_columnMoves x1 τ = some o_) : xMet (wT D m) l yX6_columnMoves (ws_ yX6_columnMoves cX6_columnMoves 8 none) 6 360 0 0 [.ref m, .int x1] τ (none, o_) :=
  xMet_of (by decide) (Nat.le_of_ble_eq_true rfl) KT_moved (fun _ _ => trivial) (fun K _ _ _ => ok_f_t_columnMoves hf (fun _ h => by rw [h]))
theorem hd_f_t_columnMoves : yX6_columnMoves.cls = RX6 ∧ yX6_columnMoves.cls ≠ "java/lang/invoke/MethodHandle" ∧ yX6_columnMoves.cls ≠ "java/lang/invoke/VarHandle" ∧ (parseMethodDescriptor yX6_columnMoves.desc).map (fun d => d.parameters.length) = some 1 := by decide +kernel
theorem call_f_t_columnMoves {D : TD} {m : Nat} {K : xK} {M : xM} {Q : State → Prop} {x1 : Int32} {τ : TS} {pc : Nat} {loc : List (Nat × Value)} {st : List Value} {τ1 : TS} (hf : f_t_columnMoves x1 τ = some τ1) (ho : M.2.2.1 = RX6) (hfr : 7 ≤ M.2.2.2.1) (hlo : 387 ≤ M.2.2.2.2.1) (hcat : (st.map fun v => v.category).sum ≤ 8) (d : decode M.1 pc = .ok (.invokevirtual 557, 3)) (k : xV (wT D m) K M Q τ1 (pc + 3) loc st) : xV (wT D m) K M Q τ pc loc (.int x1 :: .ref m :: st) :=
  xr_callV (As := [.int x1]) (rest := st) (met_f_t_columnMoves K.2.1 hf) (lw_V q2509 q2511 qs139 q186 q2512) hd_f_t_columnMoves ho hfr hlo rfl (fun H hR hK => t_recv H hR hK) rfl hcat d k
abbrev mX6_bendPaid : xM := (cX6_bendPaid, 5, RX6, 2, 120, (some .int), "bendPaid")
def Jt_bendPaid_78 (x1 : Int32) (x2 : Int32) (x3 : Int32) (τ : TS) : Option ((Int32 × Int32 × TS) ⊕ ((Int32 × TS))) :=
  some (.inl (x2, x3 + 1, τ))
theorem ok_Jt_bendPaid_78 {D : TD} {m : Nat} {K : xK} {Z : Option Value × TS} {x1 : Int32} {x2 : Int32} {x3 : Int32} {τ : TS} {o_ : ((Int32 × Int32 × TS) ⊕ ((Int32 × TS)))} (hf : Jt_bendPaid_78 x1 x2 x3 τ = some o_) (kc : ∀ s_ : Int32 × Int32 × TS, o_ = .inl s_ → xV (wT D m) K mX6_bendPaid (xQ (wT D m) K Z) s_.2.2 4 [(0, .ref m), (1, .int x1), (2, .int s_.1), (3, .int s_.2.1)] []) (ke0 : ∀ e_ : Int32 × TS, o_ = .inr e_ → xV (wT D m) K mX6_bendPaid (xQ (wT D m) K Z) e_.2 84 [(2, .int e_.1)] []) : xV (wT D m) K mX6_bendPaid (xQ (wT D m) K Z) τ 78 [(0, .ref m), (1, .int x1), (2, .int x2), (3, .int x3)] [] := by
  unfold Jt_bendPaid_78 at hf
  refine xr_iinc (pc := 78) (loc' := [(3, .int (x3 + 1)), (0, .ref m), (1, .int x1), (2, .int x2)]) 3 dX6_bendPaid_78 rfl xci_1 (by decide) rfl ?_
  refine xr_goto (pc := 81) 4 dX6_bendPaid_81 (by decide) ?_
  refine xV_sub [1, 2, 3, 0] rfl ?_
  exact kc _ (Option.some.inj hf).symm
def Bt_bendPaid_4 (x1 : Int32) (x2 : Int32) (x3 : Int32) (τ : TS) : Option ((Int32 × Int32 × TS) ⊕ ((Int32 × TS))) :=
  xbd (f_t_lordMany τ) fun r1 τ1 =>
  if r1 ≤ x3 then
  some (.inr (x2, τ1))
  else
  xbd (f_t_isOf x3 x1 τ1) fun r2 τ2 =>
  if r2 = 0 then
  Jt_bendPaid_78 x1 x2 x3 τ2
  else
  xbd (f_t_offerOf x3 τ2) fun r3 τ3 =>
  if xin ((172 + (2 * x3)) + 1) 303 = true then
  if xin ((172 + (2 * x3)) + 1) 303 = true then
  if xin x3 5 = true then
  if xin (28 + (5 * x3)) 50 = true then
  if xin x3 5 = true then
  Jt_bendPaid_78 x1 (x2 + r3) x3 (sA (sA τ3 62 ((172 + (2 * x3)) + 1).toNatClampNeg ((tA τ3 62 ((172 + (2 * x3)) + 1).toNatClampNeg) - r3)) 72 x3.toNatClampNeg ((tA (sA τ3 62 ((172 + (2 * x3)) + 1).toNatClampNeg ((tA τ3 62 ((172 + (2 * x3)) + 1).toNatClampNeg) - r3)) 72 x3.toNatClampNeg) + ((tA (sA τ3 62 ((172 + (2 * x3)) + 1).toNatClampNeg ((tA τ3 62 ((172 + (2 * x3)) + 1).toNatClampNeg) - r3)) 49 (28 + (5 * x3)).toNatClampNeg) - r3)))
  else none
  else none
  else none
  else none
  else none
theorem ok_Bt_bendPaid_4 {D : TD} {m : Nat} {K : xK} {Z : Option Value × TS} {x1 : Int32} {x2 : Int32} {x3 : Int32} {τ : TS} {o_ : ((Int32 × Int32 × TS) ⊕ ((Int32 × TS)))} (hf : Bt_bendPaid_4 x1 x2 x3 τ = some o_) (kc : ∀ s_ : Int32 × Int32 × TS, o_ = .inl s_ → xV (wT D m) K mX6_bendPaid (xQ (wT D m) K Z) s_.2.2 4 [(0, .ref m), (1, .int x1), (2, .int s_.1), (3, .int s_.2.1)] []) (ke0 : ∀ e_ : Int32 × TS, o_ = .inr e_ → xV (wT D m) K mX6_bendPaid (xQ (wT D m) K Z) e_.2 84 [(2, .int e_.1)] []) : xV (wT D m) K mX6_bendPaid (xQ (wT D m) K Z) τ 4 [(0, .ref m), (1, .int x1), (2, .int x2), (3, .int x3)] [] := by
  unfold Bt_bendPaid_4 at hf
  refine xr_iload_n (pc := 4) 3 dX6_bendPaid_4 rfl rfl ?_
  refine xr_aload_n (pc := 5) 0 dX6_bendPaid_5 rfl rfl ?_
  obtain ⟨r1, τ1, hτ1, hf⟩ := xo_bd hf
  refine call_f_t_lordMany (pc := 6) hτ1 rfl (Nat.le_of_ble_eq_true rfl) (Nat.le_of_ble_eq_true rfl) (Nat.le_of_ble_eq_true rfl) dX6_bendPaid_6 ?_
  refine xr_icmp_ge (pc := 9) 84 dX6_bendPaid_9 (by decide) (fun c_ => ?_) (fun c_ => ?_)
  · have hf := xo_pos c_ hf
    refine xV_sub [2] rfl ?_
    exact ke0 _ (Option.some.inj hf).symm
  · have hf := xo_neg c_ hf
    refine xr_aload_n (pc := 12) 0 dX6_bendPaid_12 rfl rfl ?_
    refine xr_iload_n (pc := 13) 3 dX6_bendPaid_13 rfl rfl ?_
    refine xr_iload_n (pc := 14) 1 dX6_bendPaid_14 rfl rfl ?_
    obtain ⟨r2, τ2, hτ2, hf⟩ := xo_bd hf
    refine call_f_t_isOf (pc := 15) hτ2 rfl (Nat.le_of_ble_eq_true rfl) (Nat.le_of_ble_eq_true rfl) (Nat.le_of_ble_eq_true rfl) dX6_bendPaid_15 ?_
    refine xr_if_ne (pc := 18) 24 dX6_bendPaid_18 (by decide) (fun c_ => ?_) (fun c_ => ?_)
    · have hf := xo_pos c_ hf
      refine xr_goto (pc := 21) 78 dX6_bendPaid_21 (by decide) ?_
      exact ok_Jt_bendPaid_78 hf kc ke0
    · have hf := xo_neg c_ hf
      refine xr_aload_n (pc := 24) 0 dX6_bendPaid_24 rfl rfl ?_
      refine xr_iload_n (pc := 25) 3 dX6_bendPaid_25 rfl rfl ?_
      obtain ⟨r3, τ3, hτ3, hf⟩ := xo_bd hf
      refine call_f_t_offerOf (pc := 26) hτ3 rfl (Nat.le_of_ble_eq_true rfl) (Nat.le_of_ble_eq_true rfl) (Nat.le_of_ble_eq_true rfl) dX6_bendPaid_26 ?_
      refine xr_istore (pc := 29) (loc' := [(4, .int r3), (0, .ref m), (1, .int x1), (2, .int x2), (3, .int x3)]) dX6_bendPaid_29 (by decide) rfl ?_
      refine xr_aload_n (pc := 31) 1 dX6_bendPaid_31 rfl rfl ?_
      refine xt_getA (pc := 32) 62 (by decide) q1808 rfl rfl rfl dX6_bendPaid_32 ?_
      refine xr_sipush (pc := 35) dX6_bendPaid_35 xcs_172 ?_
      refine xr_iconst (pc := 38) dX6_bendPaid_38 xci_2 ?_
      refine xr_iload_n (pc := 39) 4 dX6_bendPaid_39 rfl rfl ?_
      refine xr_imul (pc := 40) dX6_bendPaid_40 ?_
      refine xr_iadd (pc := 41) dX6_bendPaid_41 ?_
      refine xr_iconst (pc := 42) dX6_bendPaid_42 xci_1 ?_
      refine xr_iadd (pc := 43) dX6_bendPaid_43 ?_
      refine xr_dup2_11 (pc := 44) dX6_bendPaid_44 rfl rfl ?_
      obtain ⟨hi_, hf⟩ := xo_if hf
      refine xt_iald (pc := 45) 62 rfl rfl hi_ dX6_bendPaid_45 ?_
      refine xr_iload (pc := 46) 0 dX6_bendPaid_46 rfl ?_
      refine xr_isub (pc := 48) dX6_bendPaid_48 ?_
      obtain ⟨hi_, hf⟩ := xo_if hf
      refine xt_iast (pc := 49) 62 rfl rfl hi_ dX6_bendPaid_49 ?_
      refine xr_aload_n (pc := 50) 1 dX6_bendPaid_50 rfl rfl ?_
      refine xt_getA (pc := 51) 72 (by decide) q1818 rfl rfl rfl dX6_bendPaid_51 ?_
      refine xr_iload_n (pc := 54) 4 dX6_bendPaid_54 rfl rfl ?_
      refine xr_dup2_11 (pc := 55) dX6_bendPaid_55 rfl rfl ?_
      obtain ⟨hi_, hf⟩ := xo_if hf
      refine xt_iald (pc := 56) 72 rfl rfl hi_ dX6_bendPaid_56 ?_
      refine xr_aload_n (pc := 57) 1 dX6_bendPaid_57 rfl rfl ?_
      refine xt_getA (pc := 58) 49 (by decide) q1795 rfl rfl rfl dX6_bendPaid_58 ?_
      refine xr_bipush (pc := 61) dX6_bendPaid_61 xcb_28 ?_
      refine xr_iconst (pc := 63) dX6_bendPaid_63 xci_5 ?_
      refine xr_iload_n (pc := 64) 4 dX6_bendPaid_64 rfl rfl ?_
      refine xr_imul (pc := 65) dX6_bendPaid_65 ?_
      refine xr_iadd (pc := 66) dX6_bendPaid_66 ?_
      obtain ⟨hi_, hf⟩ := xo_if hf
      refine xt_iald (pc := 67) 49 rfl rfl hi_ dX6_bendPaid_67 ?_
      refine xr_iload (pc := 68) 0 dX6_bendPaid_68 rfl ?_
      refine xr_isub (pc := 70) dX6_bendPaid_70 ?_
      refine xr_iadd (pc := 71) dX6_bendPaid_71 ?_
      obtain ⟨hi_, hf⟩ := xo_if hf
      refine xt_iast (pc := 72) 72 rfl rfl hi_ dX6_bendPaid_72 ?_
      refine xr_iload_n (pc := 73) 3 dX6_bendPaid_73 rfl rfl ?_
      refine xr_iload (pc := 74) 0 dX6_bendPaid_74 rfl ?_
      refine xr_iadd (pc := 76) dX6_bendPaid_76 ?_
      refine xr_istore_n (pc := 77) (loc' := [(2, .int (x2 + r3)), (4, .int r3), (0, .ref m), (1, .int x1), (3, .int x3)]) dX6_bendPaid_77 rfl (by decide) rfl ?_
      refine xV_sub [2, 3, 0, 4] rfl ?_
      exact ok_Jt_bendPaid_78 hf kc ke0
def f_t_bendPaid (x1 : Int32) (τ : TS) : Option (Int32 × TS) :=
  (itr (fun s_ : Int32 × Int32 × TS => Bt_bendPaid_4 x1 s_.1 s_.2.1 s_.2.2) 4096 (0, 0, τ)).bind fun b4 =>
  some ((b4.1, b4.2))
theorem ok_f_t_bendPaid {D : TD} {m : Nat} {K : xK} {Z : Option Value × TS} {x1 : Int32} {τ : TS} {o_ : (Int32 × TS)} (hf : f_t_bendPaid x1 τ = some o_) (kr : ∀ r_ : (Int32 × TS), o_ = r_ → Z = (some (.int r_.1), r_.2)) : xV (wT D m) K mX6_bendPaid (xQ (wT D m) K Z) τ 0 [(0, .ref m), (1, .int x1)] [] := by
  unfold f_t_bendPaid at hf
  refine xr_iconst (pc := 0) dX6_bendPaid_0 xci_0 ?_
  refine xr_istore_n (pc := 1) (loc' := [(2, .int 0), (0, .ref m), (1, .int x1)]) dX6_bendPaid_1 rfl (by decide) rfl ?_
  refine xr_iconst (pc := 2) dX6_bendPaid_2 xci_0 ?_
  refine xr_istore_n (pc := 3) (loc' := [(3, .int 0), (2, .int 0), (0, .ref m), (1, .int x1)]) dX6_bendPaid_3 rfl (by decide) rfl ?_
  refine xV_sub [2, 3, 1, 0] rfl ?_
  obtain ⟨b4, hb4, hf⟩ := xo_bind hf
  refine itr_rule (P := fun s_ : Int32 × Int32 × TS => xV (wT D m) K mX6_bendPaid (xQ (wT D m) K Z) s_.2.2 4 [(0, .ref m), (1, .int x1), (2, .int s_.1), (3, .int s_.2.1)] []) (fun s_ o_ hB_ hc_ he_ => ok_Bt_bendPaid_4 hB_ hc_ (fun e_ h_ => ?_)) 4096 _ hb4
  · have e9_ := he_ _ h_
    rw [e9_]
    refine xr_iload_n (pc := 84) 0 dX6_bendPaid_84 rfl rfl ?_
    rw [kr _ (Option.some.inj hf).symm]
    exact xr_iret (pc := 85) dX6_bendPaid_85 rfl
theorem met_f_t_bendPaid (l : Launch) {D : TD} {m : Nat} {x1 : Int32} {τ : TS} {o_ : (Int32 × TS)} (hf : f_t_bendPaid x1 τ = some o_) : xMet (wT D m) l yX6_bendPaid (ws_ yX6_bendPaid cX6_bendPaid 5 (some .int)) 2 120 0 0 [.ref m, .int x1] τ (some (.int o_.1), o_.2) :=
  xMet_of (by decide) (Nat.le_of_ble_eq_true rfl) KT_moved (fun _ _ => trivial) (fun K _ _ _ => ok_f_t_bendPaid hf (fun _ h => by rw [h]))
theorem hd_f_t_bendPaid : yX6_bendPaid.cls = RX6 ∧ yX6_bendPaid.cls ≠ "java/lang/invoke/MethodHandle" ∧ yX6_bendPaid.cls ≠ "java/lang/invoke/VarHandle" ∧ (parseMethodDescriptor yX6_bendPaid.desc).map (fun d => d.parameters.length) = some 1 := by decide +kernel
theorem call_f_t_bendPaid {D : TD} {m : Nat} {K : xK} {M : xM} {Q : State → Prop} {x1 : Int32} {τ : TS} {pc : Nat} {loc : List (Nat × Value)} {st : List Value} {r : Int32} {τ1 : TS} (hf : f_t_bendPaid x1 τ = some (r, τ1)) (ho : M.2.2.1 = RX6) (hfr : 3 ≤ M.2.2.2.1) (hlo : 144 ≤ M.2.2.2.2.1) (hcat : (st.map fun v => v.category).sum ≤ 8) (d : decode M.1 pc = .ok (.invokevirtual 560, 3)) (k : xV (wT D m) K M Q τ1 (pc + 3) loc (.int r :: st)) : xV (wT D m) K M Q τ pc loc (.int x1 :: .ref m :: st) :=
  xr_callV (As := [.int x1]) (rest := st) (met_f_t_bendPaid K.2.1 hf) (lw_V q2517 q2519 qs141 q186 q2520) hd_f_t_bendPaid ho hfr hlo rfl (fun H hR hK => t_recv H hR hK) rfl hcat d k
abbrev mX6_isKept : xM := (cX6_isKept, 4, RX6, 0, 0, none, "isKept")
def Bt_isKept_25 (x1 : Int32) (x2 : Int32) (x3 : Int32) (τ : TS) : Option ((Int32 × TS) ⊕ ((TS))) :=
  if 300 ≤ x3 then
  some (.inr τ)
  else
  if xin (x3 + 3) 303 = true then
  if xin x3 303 = true then
  some (.inl (x3 + 1, sA τ 62 x3.toNatClampNeg (tA τ 62 (x3 + 3).toNatClampNeg)))
  else none
  else none
theorem ok_Bt_isKept_25 {D : TD} {m : Nat} {K : xK} {Z : Option Value × TS} {x1 : Int32} {x2 : Int32} {x3 : Int32} {τ : TS} {o_ : ((Int32 × TS) ⊕ ((TS)))} (hf : Bt_isKept_25 x1 x2 x3 τ = some o_) (kc : ∀ s_ : Int32 × TS, o_ = .inl s_ → xV (wT D m) K mX6_isKept (xQ (wT D m) K Z) s_.2 25 [(0, .ref m), (1, .int x1), (2, .int x2), (3, .int s_.1)] []) (ke0 : ∀ e_ : TS, o_ = .inr e_ → xV (wT D m) K mX6_isKept (xQ (wT D m) K Z) e_ 52 [(0, .ref m), (1, .int x1), (2, .int x2)] []) : xV (wT D m) K mX6_isKept (xQ (wT D m) K Z) τ 25 [(0, .ref m), (1, .int x1), (2, .int x2), (3, .int x3)] [] := by
  unfold Bt_isKept_25 at hf
  refine xr_iload_n (pc := 25) 3 dX6_isKept_25 rfl rfl ?_
  refine xr_sipush (pc := 26) dX6_isKept_26 xcs_300 ?_
  refine xr_icmp_ge (pc := 29) 52 dX6_isKept_29 (by decide) (fun c_ => ?_) (fun c_ => ?_)
  · have hf := xo_pos c_ hf
    refine xV_sub [0, 1, 2] rfl ?_
    exact ke0 _ (Option.some.inj hf).symm
  · have hf := xo_neg c_ hf
    refine xr_aload_n (pc := 32) 0 dX6_isKept_32 rfl rfl ?_
    refine xt_getA (pc := 33) 62 (by decide) q1808 rfl rfl rfl dX6_isKept_33 ?_
    refine xr_iload_n (pc := 36) 3 dX6_isKept_36 rfl rfl ?_
    refine xr_aload_n (pc := 37) 0 dX6_isKept_37 rfl rfl ?_
    refine xt_getA (pc := 38) 62 (by decide) q1808 rfl rfl rfl dX6_isKept_38 ?_
    refine xr_iload_n (pc := 41) 3 dX6_isKept_41 rfl rfl ?_
    refine xr_iconst (pc := 42) dX6_isKept_42 xci_3 ?_
    refine xr_iadd (pc := 43) dX6_isKept_43 ?_
    obtain ⟨hi_, hf⟩ := xo_if hf
    refine xt_iald (pc := 44) 62 rfl rfl hi_ dX6_isKept_44 ?_
    obtain ⟨hi_, hf⟩ := xo_if hf
    refine xt_iast (pc := 45) 62 rfl rfl hi_ dX6_isKept_45 ?_
    refine xr_iinc (pc := 46) (loc' := [(3, .int (x3 + 1)), (0, .ref m), (1, .int x1), (2, .int x2)]) 3 dX6_isKept_46 rfl xci_1 (by decide) rfl ?_
    refine xr_goto (pc := 49) 25 dX6_isKept_49 (by decide) ?_
    refine xV_sub [1, 2, 3, 0] rfl ?_
    exact kc _ (Option.some.inj hf).symm
def Jt_isKept_67 (x1 : Int32) (x2 : Int32) (τ : TS) : Option TS :=
  if xin 182 303 = true then
  if xin 0 303 = true then
  if xin ((183 + (3 * (tA τ 62 (182 : Int32).toNatClampNeg))) - 3) 303 = true then
  if xin (((183 + (3 * (tA τ 62 (182 : Int32).toNatClampNeg))) - 3) + 1) 303 = true then
  if xin (((183 + (3 * (tA τ 62 (182 : Int32).toNatClampNeg))) - 3) + 2) 303 = true then
  some (sA (sA (sA τ 62 ((183 + (3 * (tA τ 62 (182 : Int32).toNatClampNeg))) - 3).toNatClampNeg (tA τ 62 (0 : Int32).toNatClampNeg)) 62 (((183 + (3 * (tA τ 62 (182 : Int32).toNatClampNeg))) - 3) + 1).toNatClampNeg x1) 62 (((183 + (3 * (tA τ 62 (182 : Int32).toNatClampNeg))) - 3) + 2).toNatClampNeg x2)
  else none
  else none
  else none
  else none
  else none
theorem ok_Jt_isKept_67 {D : TD} {m : Nat} {K : xK} {Z : Option Value × TS} {x1 : Int32} {x2 : Int32} {τ : TS} {o_ : TS} (hf : Jt_isKept_67 x1 x2 τ = some o_) (kr : ∀ r_ : TS, o_ = r_ → Z = (none, r_)) : xV (wT D m) K mX6_isKept (xQ (wT D m) K Z) τ 67 [(0, .ref m), (1, .int x1), (2, .int x2)] [] := by
  unfold Jt_isKept_67 at hf
  refine xr_sipush (pc := 67) dX6_isKept_67 xcs_183 ?_
  refine xr_iconst (pc := 70) dX6_isKept_70 xci_3 ?_
  refine xr_aload_n (pc := 71) 0 dX6_isKept_71 rfl rfl ?_
  refine xt_getA (pc := 72) 62 (by decide) q1808 rfl rfl rfl dX6_isKept_72 ?_
  refine xr_sipush (pc := 75) dX6_isKept_75 xcs_182 ?_
  obtain ⟨hi_, hf⟩ := xo_if hf
  refine xt_iald (pc := 78) 62 rfl rfl hi_ dX6_isKept_78 ?_
  refine xr_imul (pc := 79) dX6_isKept_79 ?_
  refine xr_iadd (pc := 80) dX6_isKept_80 ?_
  refine xr_iconst (pc := 81) dX6_isKept_81 xci_3 ?_
  refine xr_isub (pc := 82) dX6_isKept_82 ?_
  refine xr_istore_n (pc := 83) (loc' := [(3, .int ((183 + (3 * (tA τ 62 (182 : Int32).toNatClampNeg))) - 3)), (0, .ref m), (1, .int x1), (2, .int x2)]) dX6_isKept_83 rfl (by decide) rfl ?_
  refine xr_aload_n (pc := 84) 1 dX6_isKept_84 rfl rfl ?_
  refine xt_getA (pc := 85) 62 (by decide) q1808 rfl rfl rfl dX6_isKept_85 ?_
  refine xr_iload_n (pc := 88) 0 dX6_isKept_88 rfl rfl ?_
  refine xr_aload_n (pc := 89) 1 dX6_isKept_89 rfl rfl ?_
  refine xt_getA (pc := 90) 62 (by decide) q1808 rfl rfl rfl dX6_isKept_90 ?_
  refine xr_iconst (pc := 93) dX6_isKept_93 xci_0 ?_
  obtain ⟨hi_, hf⟩ := xo_if hf
  refine xt_iald (pc := 94) 62 rfl rfl hi_ dX6_isKept_94 ?_
  obtain ⟨hi_, hf⟩ := xo_if hf
  refine xt_iast (pc := 95) 62 rfl rfl hi_ dX6_isKept_95 ?_
  refine xr_aload_n (pc := 96) 1 dX6_isKept_96 rfl rfl ?_
  refine xt_getA (pc := 97) 62 (by decide) q1808 rfl rfl rfl dX6_isKept_97 ?_
  refine xr_iload_n (pc := 100) 0 dX6_isKept_100 rfl rfl ?_
  refine xr_iconst (pc := 101) dX6_isKept_101 xci_1 ?_
  refine xr_iadd (pc := 102) dX6_isKept_102 ?_
  refine xr_iload_n (pc := 103) 2 dX6_isKept_103 rfl rfl ?_
  obtain ⟨hi_, hf⟩ := xo_if hf
  refine xt_iast (pc := 104) 62 rfl rfl hi_ dX6_isKept_104 ?_
  refine xr_aload_n (pc := 105) 1 dX6_isKept_105 rfl rfl ?_
  refine xt_getA (pc := 106) 62 (by decide) q1808 rfl rfl rfl dX6_isKept_106 ?_
  refine xr_iload_n (pc := 109) 0 dX6_isKept_109 rfl rfl ?_
  refine xr_iconst (pc := 110) dX6_isKept_110 xci_2 ?_
  refine xr_iadd (pc := 111) dX6_isKept_111 ?_
  refine xr_iload_n (pc := 112) 3 dX6_isKept_112 rfl rfl ?_
  obtain ⟨hi_, hf⟩ := xo_if hf
  refine xt_iast (pc := 113) 62 rfl rfl hi_ dX6_isKept_113 ?_
  rw [kr _ (Option.some.inj hf).symm]
  exact xr_vret (pc := 114) dX6_isKept_114 rfl
def f_t_isKept (x1 : Int32) (x2 : Int32) (τ : TS) : Option TS :=
  if (tI τ 70) = 0 then
  if xin 182 303 = true then
  if (tA τ 62 (182 : Int32).toNatClampNeg) = 40 then
  (itr (fun s_ : Int32 × TS => Bt_isKept_25 x1 x2 s_.1 s_.2) 4096 (183, τ)).bind fun b1 =>
  Jt_isKept_67 x1 x2 b1
  else
  if xin 182 303 = true then
  if xin 182 303 = true then
  Jt_isKept_67 x1 x2 (sA τ 62 (182 : Int32).toNatClampNeg ((tA τ 62 (182 : Int32).toNatClampNeg) + 1))
  else none
  else none
  else none
  else
  some (τ)
theorem ok_f_t_isKept {D : TD} {m : Nat} {K : xK} {Z : Option Value × TS} {x1 : Int32} {x2 : Int32} {τ : TS} {o_ : TS} (hf : f_t_isKept x1 x2 τ = some o_) (kr : ∀ r_ : TS, o_ = r_ → Z = (none, r_)) : xV (wT D m) K mX6_isKept (xQ (wT D m) K Z) τ 0 [(0, .ref m), (1, .int x1), (2, .int x2)] [] := by
  unfold f_t_isKept at hf
  refine xr_aload_n (pc := 0) 0 dX6_isKept_0 rfl rfl ?_
  refine xt_getI (pc := 1) 70 (by decide) q1816 rfl rfl rfl dX6_isKept_1 ?_
  refine xr_if_eq (pc := 4) 8 dX6_isKept_4 (by decide) (fun c_ => ?_) (fun c_ => ?_)
  · have hf := xo_pos c_ hf
    refine xr_aload_n (pc := 8) 0 dX6_isKept_8 rfl rfl ?_
    refine xt_getA (pc := 9) 62 (by decide) q1808 rfl rfl rfl dX6_isKept_9 ?_
    refine xr_sipush (pc := 12) dX6_isKept_12 xcs_182 ?_
    obtain ⟨hi_, hf⟩ := xo_if hf
    refine xt_iald (pc := 15) 62 rfl rfl hi_ dX6_isKept_15 ?_
    refine xr_bipush (pc := 16) dX6_isKept_16 xcb_40 ?_
    refine xr_icmp_ne (pc := 18) 55 dX6_isKept_18 (by decide) (fun c_ => ?_) (fun c_ => ?_)
    · have hf := xo_pos c_ hf
      refine xr_sipush (pc := 21) dX6_isKept_21 xcs_183 ?_
      refine xr_istore_n (pc := 24) (loc' := [(3, .int 183), (0, .ref m), (1, .int x1), (2, .int x2)]) dX6_isKept_24 rfl (by decide) rfl ?_
      refine xV_sub [1, 2, 3, 0] rfl ?_
      obtain ⟨b1, hb1, hf⟩ := xo_bind hf
      refine itr_rule (P := fun s_ : Int32 × TS => xV (wT D m) K mX6_isKept (xQ (wT D m) K Z) s_.2 25 [(0, .ref m), (1, .int x1), (2, .int x2), (3, .int s_.1)] []) (fun s_ o_ hB_ hc_ he_ => ok_Bt_isKept_25 hB_ hc_ (fun e_ h_ => ?_)) 4096 _ hb1
      · have e9_ := he_ _ h_
        rw [e9_]
        refine xr_goto (pc := 52) 67 dX6_isKept_52 (by decide) ?_
        exact ok_Jt_isKept_67 hf kr
    · have hf := xo_neg c_ hf
      refine xr_aload_n (pc := 55) 0 dX6_isKept_55 rfl rfl ?_
      refine xt_getA (pc := 56) 62 (by decide) q1808 rfl rfl rfl dX6_isKept_56 ?_
      refine xr_sipush (pc := 59) dX6_isKept_59 xcs_182 ?_
      refine xr_dup2_11 (pc := 62) dX6_isKept_62 rfl rfl ?_
      obtain ⟨hi_, hf⟩ := xo_if hf
      refine xt_iald (pc := 63) 62 rfl rfl hi_ dX6_isKept_63 ?_
      refine xr_iconst (pc := 64) dX6_isKept_64 xci_1 ?_
      refine xr_iadd (pc := 65) dX6_isKept_65 ?_
      obtain ⟨hi_, hf⟩ := xo_if hf
      refine xt_iast (pc := 66) 62 rfl rfl hi_ dX6_isKept_66 ?_
      exact ok_Jt_isKept_67 hf kr
  · have hf := xo_neg c_ hf
    rw [kr _ (Option.some.inj hf).symm]
    exact xr_vret (pc := 7) dX6_isKept_7 rfl
theorem met_f_t_isKept (l : Launch) {D : TD} {m : Nat} {x1 : Int32} {x2 : Int32} {τ : TS} {o_ : TS} (hf : f_t_isKept x1 x2 τ = some o_) : xMet (wT D m) l yX6_isKept (ws_ yX6_isKept cX6_isKept 4 none) 0 0 0 0 [.ref m, .int x1, .int x2] τ (none, o_) :=
  xMet_of (by decide) (Nat.le_of_ble_eq_true rfl) KT_moved (fun _ _ => trivial) (fun K _ _ _ => ok_f_t_isKept hf (fun _ h => by rw [h]))
theorem hd_f_t_isKept : yX6_isKept.cls = RX6 ∧ yX6_isKept.cls ≠ "java/lang/invoke/MethodHandle" ∧ yX6_isKept.cls ≠ "java/lang/invoke/VarHandle" ∧ (parseMethodDescriptor yX6_isKept.desc).map (fun d => d.parameters.length) = some 2 := by decide +kernel
theorem call_f_t_isKept {D : TD} {m : Nat} {K : xK} {M : xM} {Q : State → Prop} {x1 : Int32} {x2 : Int32} {τ : TS} {pc : Nat} {loc : List (Nat × Value)} {st : List Value} {τ1 : TS} (hf : f_t_isKept x1 x2 τ = some τ1) (ho : M.2.2.1 = RX6) (hfr : 1 ≤ M.2.2.2.1) (hlo : 23 ≤ M.2.2.2.2.1) (hcat : (st.map fun v => v.category).sum ≤ 8) (d : decode M.1 pc = .ok (.invokevirtual 567, 3)) (k : xV (wT D m) K M Q τ1 (pc + 3) loc st) : xV (wT D m) K M Q τ pc loc (.int x2 :: .int x1 :: .ref m :: st) :=
  xr_callV (As := [.int x1, .int x2]) (rest := st) (met_f_t_isKept K.2.1 hf) (lw_V q2522 q2524 qs142 q186 q2525) hd_f_t_isKept ho hfr hlo rfl (fun H hR hK => t_recv H hR hK) rfl hcat d k
abbrev mX6_seasonGoes : xM := (cX6_seasonGoes, 4, RX6, 7, 420, none, "seasonGoes")
def Bt_seasonGoes_2 (x1 : Int32) (τ : TS) : Option ((Int32 × TS) ⊕ ((TS))) :=
  xbd (f_t_columnMany τ) fun r1 τ1 =>
  if r1 ≤ x1 then
  some (.inr τ1)
  else
  (f_t_columnMoves x1 τ1).bind fun τ2 =>
  some (.inl (x1 + 1, τ2))
theorem ok_Bt_seasonGoes_2 {D : TD} {m : Nat} {K : xK} {Z : Option Value × TS} {x1 : Int32} {τ : TS} {o_ : ((Int32 × TS) ⊕ ((TS)))} (hf : Bt_seasonGoes_2 x1 τ = some o_) (kc : ∀ s_ : Int32 × TS, o_ = .inl s_ → xV (wT D m) K mX6_seasonGoes (xQ (wT D m) K Z) s_.2 2 [(0, .ref m), (1, .int s_.1)] []) (ke0 : ∀ e_ : TS, o_ = .inr e_ → xV (wT D m) K mX6_seasonGoes (xQ (wT D m) K Z) e_ 21 [(0, .ref m)] []) : xV (wT D m) K mX6_seasonGoes (xQ (wT D m) K Z) τ 2 [(0, .ref m), (1, .int x1)] [] := by
  unfold Bt_seasonGoes_2 at hf
  refine xr_iload_n (pc := 2) 1 dX6_seasonGoes_2 rfl rfl ?_
  refine xr_aload_n (pc := 3) 0 dX6_seasonGoes_3 rfl rfl ?_
  obtain ⟨r1, τ1, hτ1, hf⟩ := xo_bd hf
  refine call_f_t_columnMany (pc := 4) hτ1 rfl (Nat.le_of_ble_eq_true rfl) (Nat.le_of_ble_eq_true rfl) (Nat.le_of_ble_eq_true rfl) dX6_seasonGoes_4 ?_
  refine xr_icmp_ge (pc := 7) 21 dX6_seasonGoes_7 (by decide) (fun c_ => ?_) (fun c_ => ?_)
  · have hf := xo_pos c_ hf
    refine xV_sub [0] rfl ?_
    exact ke0 _ (Option.some.inj hf).symm
  · have hf := xo_neg c_ hf
    refine xr_aload_n (pc := 10) 0 dX6_seasonGoes_10 rfl rfl ?_
    refine xr_iload_n (pc := 11) 1 dX6_seasonGoes_11 rfl rfl ?_
    obtain ⟨τ2, hτ2, hf⟩ := xo_bind hf
    refine call_f_t_columnMoves (pc := 12) hτ2 rfl (Nat.le_of_ble_eq_true rfl) (Nat.le_of_ble_eq_true rfl) (Nat.le_of_ble_eq_true rfl) dX6_seasonGoes_12 ?_
    refine xr_iinc (pc := 15) (loc' := [(1, .int (x1 + 1)), (0, .ref m)]) 1 dX6_seasonGoes_15 rfl xci_1 (by decide) rfl ?_
    refine xr_goto (pc := 18) 2 dX6_seasonGoes_18 (by decide) ?_
    refine xV_sub [1, 0] rfl ?_
    exact kc _ (Option.some.inj hf).symm
def Jt_seasonGoes_66 (x1 : Int32) (τ : TS) : Option ((Int32 × TS) ⊕ ((TS))) :=
  some (.inl (x1 + 1, τ))
theorem ok_Jt_seasonGoes_66 {D : TD} {m : Nat} {K : xK} {Z : Option Value × TS} {x1 : Int32} {τ : TS} {o_ : ((Int32 × TS) ⊕ ((TS)))} (hf : Jt_seasonGoes_66 x1 τ = some o_) (kc : ∀ s_ : Int32 × TS, o_ = .inl s_ → xV (wT D m) K mX6_seasonGoes (xQ (wT D m) K Z) s_.2 23 [(0, .ref m), (1, .int s_.1)] []) (ke0 : ∀ e_ : TS, o_ = .inr e_ → xV (wT D m) K mX6_seasonGoes (xQ (wT D m) K Z) e_ 72 [(0, .ref m)] []) : xV (wT D m) K mX6_seasonGoes (xQ (wT D m) K Z) τ 66 [(0, .ref m), (1, .int x1)] [] := by
  unfold Jt_seasonGoes_66 at hf
  refine xr_iinc (pc := 66) (loc' := [(1, .int (x1 + 1)), (0, .ref m)]) 1 dX6_seasonGoes_66 rfl xci_1 (by decide) rfl ?_
  refine xr_goto (pc := 69) 23 dX6_seasonGoes_69 (by decide) ?_
  refine xV_sub [1, 0] rfl ?_
  exact kc _ (Option.some.inj hf).symm
def Bt_seasonGoes_23 (x1 : Int32) (τ : TS) : Option ((Int32 × TS) ⊕ ((TS))) :=
  xbd (f_t_columnMany τ) fun r4 τ4 =>
  if r4 ≤ x1 then
  some (.inr τ4)
  else
  xbd (f_t_rowOf x1 τ4) fun r5 τ5 =>
  if xin ((92 + (8 * x1)) + r5) 303 = true then
  if 99 ≤ (tA τ5 62 ((92 + (8 * x1)) + r5).toNatClampNeg) then
  Jt_seasonGoes_66 x1 τ5
  else
  if xin ((92 + (8 * x1)) + r5) 303 = true then
  if xin ((92 + (8 * x1)) + r5) 303 = true then
  Jt_seasonGoes_66 x1 (sA τ5 62 ((92 + (8 * x1)) + r5).toNatClampNeg ((tA τ5 62 ((92 + (8 * x1)) + r5).toNatClampNeg) + 1))
  else none
  else none
  else none
theorem ok_Bt_seasonGoes_23 {D : TD} {m : Nat} {K : xK} {Z : Option Value × TS} {x1 : Int32} {τ : TS} {o_ : ((Int32 × TS) ⊕ ((TS)))} (hf : Bt_seasonGoes_23 x1 τ = some o_) (kc : ∀ s_ : Int32 × TS, o_ = .inl s_ → xV (wT D m) K mX6_seasonGoes (xQ (wT D m) K Z) s_.2 23 [(0, .ref m), (1, .int s_.1)] []) (ke0 : ∀ e_ : TS, o_ = .inr e_ → xV (wT D m) K mX6_seasonGoes (xQ (wT D m) K Z) e_ 72 [(0, .ref m)] []) : xV (wT D m) K mX6_seasonGoes (xQ (wT D m) K Z) τ 23 [(0, .ref m), (1, .int x1)] [] := by
  unfold Bt_seasonGoes_23 at hf
  refine xr_iload_n (pc := 23) 1 dX6_seasonGoes_23 rfl rfl ?_
  refine xr_aload_n (pc := 24) 0 dX6_seasonGoes_24 rfl rfl ?_
  obtain ⟨r4, τ4, hτ4, hf⟩ := xo_bd hf
  refine call_f_t_columnMany (pc := 25) hτ4 rfl (Nat.le_of_ble_eq_true rfl) (Nat.le_of_ble_eq_true rfl) (Nat.le_of_ble_eq_true rfl) dX6_seasonGoes_25 ?_
  refine xr_icmp_ge (pc := 28) 72 dX6_seasonGoes_28 (by decide) (fun c_ => ?_) (fun c_ => ?_)
  · have hf := xo_pos c_ hf
    refine xV_sub [0] rfl ?_
    exact ke0 _ (Option.some.inj hf).symm
  · have hf := xo_neg c_ hf
    refine xr_bipush (pc := 31) dX6_seasonGoes_31 xcb_92 ?_
    refine xr_bipush (pc := 33) dX6_seasonGoes_33 xcb_8 ?_
    refine xr_iload_n (pc := 35) 1 dX6_seasonGoes_35 rfl rfl ?_
    refine xr_imul (pc := 36) dX6_seasonGoes_36 ?_
    refine xr_iadd (pc := 37) dX6_seasonGoes_37 ?_
    refine xr_aload_n (pc := 38) 0 dX6_seasonGoes_38 rfl rfl ?_
    refine xr_iload_n (pc := 39) 1 dX6_seasonGoes_39 rfl rfl ?_
    obtain ⟨r5, τ5, hτ5, hf⟩ := xo_bd hf
    refine call_f_t_rowOf (pc := 40) hτ5 rfl (Nat.le_of_ble_eq_true rfl) (Nat.le_of_ble_eq_true rfl) (Nat.le_of_ble_eq_true rfl) dX6_seasonGoes_40 ?_
    refine xr_iadd (pc := 43) dX6_seasonGoes_43 ?_
    refine xr_istore_n (pc := 44) (loc' := [(2, .int ((92 + (8 * x1)) + r5)), (0, .ref m), (1, .int x1)]) dX6_seasonGoes_44 rfl (by decide) rfl ?_
    refine xr_aload_n (pc := 45) 1 dX6_seasonGoes_45 rfl rfl ?_
    refine xt_getA (pc := 46) 62 (by decide) q1808 rfl rfl rfl dX6_seasonGoes_46 ?_
    refine xr_iload_n (pc := 49) 0 dX6_seasonGoes_49 rfl rfl ?_
    obtain ⟨hi_, hf⟩ := xo_if hf
    refine xt_iald (pc := 50) 62 rfl rfl hi_ dX6_seasonGoes_50 ?_
    refine xr_bipush (pc := 51) dX6_seasonGoes_51 xcb_99 ?_
    refine xr_icmp_ge (pc := 53) 66 dX6_seasonGoes_53 (by decide) (fun c_ => ?_) (fun c_ => ?_)
    · have hf := xo_pos c_ hf
      refine xV_sub [1, 2] rfl ?_
      exact ok_Jt_seasonGoes_66 hf kc ke0
    · have hf := xo_neg c_ hf
      refine xr_aload_n (pc := 56) 1 dX6_seasonGoes_56 rfl rfl ?_
      refine xt_getA (pc := 57) 62 (by decide) q1808 rfl rfl rfl dX6_seasonGoes_57 ?_
      refine xr_iload_n (pc := 60) 0 dX6_seasonGoes_60 rfl rfl ?_
      refine xr_dup2_11 (pc := 61) dX6_seasonGoes_61 rfl rfl ?_
      obtain ⟨hi_, hf⟩ := xo_if hf
      refine xt_iald (pc := 62) 62 rfl rfl hi_ dX6_seasonGoes_62 ?_
      refine xr_iconst (pc := 63) dX6_seasonGoes_63 xci_1 ?_
      refine xr_iadd (pc := 64) dX6_seasonGoes_64 ?_
      obtain ⟨hi_, hf⟩ := xo_if hf
      refine xt_iast (pc := 65) 62 rfl rfl hi_ dX6_seasonGoes_65 ?_
      refine xV_sub [1, 2] rfl ?_
      exact ok_Jt_seasonGoes_66 hf kc ke0
def Jt_seasonGoes_105 (x1 : Int32) (x2 : Int32) (x3 : Int32) (τ : TS) : Option ((Int32 × Int32 × Int32 × TS) ⊕ ((Int32 × Int32 × TS))) :=
  some (.inl (x1, x2, x3 + 1, τ))
theorem ok_Jt_seasonGoes_105 {D : TD} {m : Nat} {K : xK} {Z : Option Value × TS} {x1 : Int32} {x2 : Int32} {x3 : Int32} {τ : TS} {o_ : ((Int32 × Int32 × Int32 × TS) ⊕ ((Int32 × Int32 × TS)))} (hf : Jt_seasonGoes_105 x1 x2 x3 τ = some o_) (kc : ∀ s_ : Int32 × Int32 × Int32 × TS, o_ = .inl s_ → xV (wT D m) K mX6_seasonGoes (xQ (wT D m) K Z) s_.2.2.2 78 [(0, .ref m), (1, .int s_.1), (2, .int s_.2.1), (3, .int s_.2.2.1)] []) (ke0 : ∀ e_ : Int32 × Int32 × TS, o_ = .inr e_ → xV (wT D m) K mX6_seasonGoes (xQ (wT D m) K Z) e_.2.2 111 [(0, .ref m), (1, .int e_.1), (2, .int e_.2.1)] []) : xV (wT D m) K mX6_seasonGoes (xQ (wT D m) K Z) τ 105 [(0, .ref m), (1, .int x1), (2, .int x2), (3, .int x3)] [] := by
  unfold Jt_seasonGoes_105 at hf
  refine xr_iinc (pc := 105) (loc' := [(3, .int (x3 + 1)), (0, .ref m), (1, .int x1), (2, .int x2)]) 3 dX6_seasonGoes_105 rfl xci_1 (by decide) rfl ?_
  refine xr_goto (pc := 108) 78 dX6_seasonGoes_108 (by decide) ?_
  refine xV_sub [1, 2, 3, 0] rfl ?_
  exact kc _ (Option.some.inj hf).symm
def Bt_seasonGoes_78 (x1 : Int32) (x2 : Int32) (x3 : Int32) (τ : TS) : Option ((Int32 × Int32 × Int32 × TS) ⊕ ((Int32 × Int32 × TS))) :=
  xbd (f_t_columnMany τ) fun r7 τ7 =>
  if r7 ≤ x3 then
  some (.inr (x1, x2, τ7))
  else
  xbd (f_t_isBend x3 τ7) fun r8 τ8 =>
  if r8 = 0 then
  Jt_seasonGoes_105 x1 x2 x3 τ8
  else
  xbd (f_t_bendPaid x3 τ8) fun r9 τ9 =>
  Jt_seasonGoes_105 (x1 + 1) (x2 + r9) x3 τ9
theorem ok_Bt_seasonGoes_78 {D : TD} {m : Nat} {K : xK} {Z : Option Value × TS} {x1 : Int32} {x2 : Int32} {x3 : Int32} {τ : TS} {o_ : ((Int32 × Int32 × Int32 × TS) ⊕ ((Int32 × Int32 × TS)))} (hf : Bt_seasonGoes_78 x1 x2 x3 τ = some o_) (kc : ∀ s_ : Int32 × Int32 × Int32 × TS, o_ = .inl s_ → xV (wT D m) K mX6_seasonGoes (xQ (wT D m) K Z) s_.2.2.2 78 [(0, .ref m), (1, .int s_.1), (2, .int s_.2.1), (3, .int s_.2.2.1)] []) (ke0 : ∀ e_ : Int32 × Int32 × TS, o_ = .inr e_ → xV (wT D m) K mX6_seasonGoes (xQ (wT D m) K Z) e_.2.2 111 [(0, .ref m), (1, .int e_.1), (2, .int e_.2.1)] []) : xV (wT D m) K mX6_seasonGoes (xQ (wT D m) K Z) τ 78 [(0, .ref m), (1, .int x1), (2, .int x2), (3, .int x3)] [] := by
  unfold Bt_seasonGoes_78 at hf
  refine xr_iload_n (pc := 78) 3 dX6_seasonGoes_78 rfl rfl ?_
  refine xr_aload_n (pc := 79) 0 dX6_seasonGoes_79 rfl rfl ?_
  obtain ⟨r7, τ7, hτ7, hf⟩ := xo_bd hf
  refine call_f_t_columnMany (pc := 80) hτ7 rfl (Nat.le_of_ble_eq_true rfl) (Nat.le_of_ble_eq_true rfl) (Nat.le_of_ble_eq_true rfl) dX6_seasonGoes_80 ?_
  refine xr_icmp_ge (pc := 83) 111 dX6_seasonGoes_83 (by decide) (fun c_ => ?_) (fun c_ => ?_)
  · have hf := xo_pos c_ hf
    refine xV_sub [0, 1, 2] rfl ?_
    exact ke0 _ (Option.some.inj hf).symm
  · have hf := xo_neg c_ hf
    refine xr_aload_n (pc := 86) 0 dX6_seasonGoes_86 rfl rfl ?_
    refine xr_iload_n (pc := 87) 3 dX6_seasonGoes_87 rfl rfl ?_
    obtain ⟨r8, τ8, hτ8, hf⟩ := xo_bd hf
    refine call_f_t_isBend (pc := 88) hτ8 rfl (Nat.le_of_ble_eq_true rfl) (Nat.le_of_ble_eq_true rfl) (Nat.le_of_ble_eq_true rfl) dX6_seasonGoes_88 ?_
    refine xr_if_eq (pc := 91) 105 dX6_seasonGoes_91 (by decide) (fun c_ => ?_) (fun c_ => ?_)
    · have hf := xo_pos c_ hf
      exact ok_Jt_seasonGoes_105 hf kc ke0
    · have hf := xo_neg c_ hf
      refine xr_iinc (pc := 94) (loc' := [(1, .int (x1 + 1)), (0, .ref m), (2, .int x2), (3, .int x3)]) 1 dX6_seasonGoes_94 rfl xci_1 (by decide) rfl ?_
      refine xr_iload_n (pc := 97) 2 dX6_seasonGoes_97 rfl rfl ?_
      refine xr_aload_n (pc := 98) 1 dX6_seasonGoes_98 rfl rfl ?_
      refine xr_iload_n (pc := 99) 3 dX6_seasonGoes_99 rfl rfl ?_
      obtain ⟨r9, τ9, hτ9, hf⟩ := xo_bd hf
      refine call_f_t_bendPaid (pc := 100) hτ9 rfl (Nat.le_of_ble_eq_true rfl) (Nat.le_of_ble_eq_true rfl) (Nat.le_of_ble_eq_true rfl) dX6_seasonGoes_100 ?_
      refine xr_iadd (pc := 103) dX6_seasonGoes_103 ?_
      refine xr_istore_n (pc := 104) (loc' := [(2, .int (x2 + r9)), (1, .int (x1 + 1)), (0, .ref m), (3, .int x3)]) dX6_seasonGoes_104 rfl (by decide) rfl ?_
      refine xV_sub [2, 1, 0, 3] rfl ?_
      exact ok_Jt_seasonGoes_105 hf kc ke0
def Jt_seasonGoes_144 (x1 : Int32) (x2 : Int32) (s0 : Int32) (s1 : Int32) (τ : TS) : Option TS :=
  if xin s1 303 = true then
  (f_t_isKept x1 x2 (sI (sA τ 62 s1.toNatClampNeg s0) 71 ((tI (sA τ 62 s1.toNatClampNeg s0) 71) + x2))).bind fun τ11 =>
  if xin 0 303 = true then
  if xin 0 303 = true then
  some (sA τ11 62 (0 : Int32).toNatClampNeg ((tA τ11 62 (0 : Int32).toNatClampNeg) + 1))
  else none
  else none
  else none
theorem ok_Jt_seasonGoes_144 {D : TD} {m : Nat} {K : xK} {Z : Option Value × TS} {x1 : Int32} {x2 : Int32} {s0 : Int32} {s1 : Int32} {τ : TS} {o_ : TS} (hf : Jt_seasonGoes_144 x1 x2 s0 s1 τ = some o_) (kr : ∀ r_ : TS, o_ = r_ → Z = (none, r_)) : xV (wT D m) K mX6_seasonGoes (xQ (wT D m) K Z) τ 144 [(0, .ref m), (1, .int x1), (2, .int x2)] [.int s0, .int s1, .ref (tAd m 62)] := by
  unfold Jt_seasonGoes_144 at hf
  obtain ⟨hi_, hf⟩ := xo_if hf
  refine xt_iast (pc := 144) 62 rfl rfl hi_ dX6_seasonGoes_144 ?_
  refine xr_aload_n (pc := 145) 0 dX6_seasonGoes_145 rfl rfl ?_
  refine xr_dup (pc := 146) dX6_seasonGoes_146 rfl ?_
  refine xt_getI (pc := 147) 71 (by decide) q1817 rfl rfl rfl dX6_seasonGoes_147 ?_
  refine xr_iload_n (pc := 150) 2 dX6_seasonGoes_150 rfl rfl ?_
  refine xr_iadd (pc := 151) dX6_seasonGoes_151 ?_
  refine xt_putI (pc := 152) 71 (by decide) q1817 rfl rfl rfl (by decide +kernel) rfl dX6_seasonGoes_152 ?_
  refine xr_aload_n (pc := 155) 0 dX6_seasonGoes_155 rfl rfl ?_
  refine xr_iload_n (pc := 156) 1 dX6_seasonGoes_156 rfl rfl ?_
  refine xr_iload_n (pc := 157) 2 dX6_seasonGoes_157 rfl rfl ?_
  obtain ⟨τ11, hτ11, hf⟩ := xo_bind hf
  refine call_f_t_isKept (pc := 158) hτ11 rfl (Nat.le_of_ble_eq_true rfl) (Nat.le_of_ble_eq_true rfl) (Nat.le_of_ble_eq_true rfl) dX6_seasonGoes_158 ?_
  refine xr_aload_n (pc := 161) 0 dX6_seasonGoes_161 rfl rfl ?_
  refine xt_getA (pc := 162) 62 (by decide) q1808 rfl rfl rfl dX6_seasonGoes_162 ?_
  refine xr_iconst (pc := 165) dX6_seasonGoes_165 xci_0 ?_
  refine xr_dup2_11 (pc := 166) dX6_seasonGoes_166 rfl rfl ?_
  obtain ⟨hi_, hf⟩ := xo_if hf
  refine xt_iald (pc := 167) 62 rfl rfl hi_ dX6_seasonGoes_167 ?_
  refine xr_iconst (pc := 168) dX6_seasonGoes_168 xci_1 ?_
  refine xr_iadd (pc := 169) dX6_seasonGoes_169 ?_
  obtain ⟨hi_, hf⟩ := xo_if hf
  refine xt_iast (pc := 170) 62 rfl rfl hi_ dX6_seasonGoes_170 ?_
  rw [kr _ (Option.some.inj hf).symm]
  exact xr_vret (pc := 171) dX6_seasonGoes_171 rfl
def f_t_seasonGoes (τ : TS) : Option TS :=
  (itr (fun s_ : Int32 × TS => Bt_seasonGoes_2 s_.1 s_.2) 4096 (0, τ)).bind fun b3 =>
  (itr (fun s_ : Int32 × TS => Bt_seasonGoes_23 s_.1 s_.2) 4096 (0, b3)).bind fun b6 =>
  (itr (fun s_ : Int32 × Int32 × Int32 × TS => Bt_seasonGoes_78 s_.1 s_.2.1 s_.2.2.1 s_.2.2.2) 4096 (0, 0, 0, b6)).bind fun b10 =>
  if xin 1 303 = true then
  if ((tA b10.2.2 62 (1 : Int32).toNatClampNeg) + b10.2.1) ≤ 999999 then
  if xin 1 303 = true then
  Jt_seasonGoes_144 b10.1 b10.2.1 ((tA b10.2.2 62 (1 : Int32).toNatClampNeg) + b10.2.1) 1 b10.2.2
  else none
  else
  Jt_seasonGoes_144 b10.1 b10.2.1 999999 1 b10.2.2
  else none
theorem ok_f_t_seasonGoes {D : TD} {m : Nat} {K : xK} {Z : Option Value × TS} {τ : TS} {o_ : TS} (hf : f_t_seasonGoes τ = some o_) (kr : ∀ r_ : TS, o_ = r_ → Z = (none, r_)) : xV (wT D m) K mX6_seasonGoes (xQ (wT D m) K Z) τ 0 [(0, .ref m)] [] := by
  unfold f_t_seasonGoes at hf
  refine xr_iconst (pc := 0) dX6_seasonGoes_0 xci_0 ?_
  refine xr_istore_n (pc := 1) (loc' := [(1, .int 0), (0, .ref m)]) dX6_seasonGoes_1 rfl (by decide) rfl ?_
  refine xV_sub [1, 0] rfl ?_
  obtain ⟨b3, hb3, hf⟩ := xo_bind hf
  refine itr_rule (P := fun s_ : Int32 × TS => xV (wT D m) K mX6_seasonGoes (xQ (wT D m) K Z) s_.2 2 [(0, .ref m), (1, .int s_.1)] []) (fun s_ o_ hB_ hc_ he_ => ok_Bt_seasonGoes_2 hB_ hc_ (fun e_ h_ => ?_)) 4096 _ hb3
  · have e9_ := he_ _ h_
    rw [e9_]
    refine xr_iconst (pc := 21) dX6_seasonGoes_21 xci_0 ?_
    refine xr_istore_n (pc := 22) (loc' := [(1, .int 0), (0, .ref m)]) dX6_seasonGoes_22 rfl (by decide) rfl ?_
    refine xV_sub [1, 0] rfl ?_
    obtain ⟨b6, hb6, hf⟩ := xo_bind hf
    refine itr_rule (P := fun s_ : Int32 × TS => xV (wT D m) K mX6_seasonGoes (xQ (wT D m) K Z) s_.2 23 [(0, .ref m), (1, .int s_.1)] []) (fun s_ o_ hB_ hc_ he_ => ok_Bt_seasonGoes_23 hB_ hc_ (fun e_ h_ => ?_)) 4096 _ hb6
    · have e9_ := he_ _ h_
      rw [e9_]
      refine xr_iconst (pc := 72) dX6_seasonGoes_72 xci_0 ?_
      refine xr_istore_n (pc := 73) (loc' := [(1, .int 0), (0, .ref m)]) dX6_seasonGoes_73 rfl (by decide) rfl ?_
      refine xr_iconst (pc := 74) dX6_seasonGoes_74 xci_0 ?_
      refine xr_istore_n (pc := 75) (loc' := [(2, .int 0), (1, .int 0), (0, .ref m)]) dX6_seasonGoes_75 rfl (by decide) rfl ?_
      refine xr_iconst (pc := 76) dX6_seasonGoes_76 xci_0 ?_
      refine xr_istore_n (pc := 77) (loc' := [(3, .int 0), (2, .int 0), (1, .int 0), (0, .ref m)]) dX6_seasonGoes_77 rfl (by decide) rfl ?_
      refine xV_sub [3, 2, 1, 0] rfl ?_
      obtain ⟨b10, hb10, hf⟩ := xo_bind hf
      refine itr_rule (P := fun s_ : Int32 × Int32 × Int32 × TS => xV (wT D m) K mX6_seasonGoes (xQ (wT D m) K Z) s_.2.2.2 78 [(0, .ref m), (1, .int s_.1), (2, .int s_.2.1), (3, .int s_.2.2.1)] []) (fun s_ o_ hB_ hc_ he_ => ok_Bt_seasonGoes_78 hB_ hc_ (fun e_ h_ => ?_)) 4096 _ hb10
      · have e9_ := he_ _ h_
        rw [e9_]
        refine xr_aload_n (pc := 111) 0 dX6_seasonGoes_111 rfl rfl ?_
        refine xt_getA (pc := 112) 62 (by decide) q1808 rfl rfl rfl dX6_seasonGoes_112 ?_
        refine xr_iconst (pc := 115) dX6_seasonGoes_115 xci_1 ?_
        refine xr_aload_n (pc := 116) 0 dX6_seasonGoes_116 rfl rfl ?_
        refine xt_getA (pc := 117) 62 (by decide) q1808 rfl rfl rfl dX6_seasonGoes_117 ?_
        refine xr_iconst (pc := 120) dX6_seasonGoes_120 xci_1 ?_
        obtain ⟨hi_, hf⟩ := xo_if hf
        refine xt_iald (pc := 121) 62 rfl rfl hi_ dX6_seasonGoes_121 ?_
        refine xr_iload_n (pc := 122) 2 dX6_seasonGoes_122 rfl rfl ?_
        refine xr_iadd (pc := 123) dX6_seasonGoes_123 ?_
        refine xr_ldcw (pc := 124) q2521 dX6_seasonGoes_124 ?_
        refine xr_icmp_le (pc := 127) 136 dX6_seasonGoes_127 (by decide) (fun c_ => ?_) (fun c_ => ?_)
        · have hf := xo_pos c_ hf
          refine xr_aload_n (pc := 136) 0 dX6_seasonGoes_136 rfl rfl ?_
          refine xt_getA (pc := 137) 62 (by decide) q1808 rfl rfl rfl dX6_seasonGoes_137 ?_
          refine xr_iconst (pc := 140) dX6_seasonGoes_140 xci_1 ?_
          obtain ⟨hi_, hf⟩ := xo_if hf
          refine xt_iald (pc := 141) 62 rfl rfl hi_ dX6_seasonGoes_141 ?_
          refine xr_iload_n (pc := 142) 2 dX6_seasonGoes_142 rfl rfl ?_
          refine xr_iadd (pc := 143) dX6_seasonGoes_143 ?_
          exact ok_Jt_seasonGoes_144 hf kr
        · have hf := xo_neg c_ hf
          refine xr_ldcw (pc := 130) q2521 dX6_seasonGoes_130 ?_
          refine xr_goto (pc := 133) 144 dX6_seasonGoes_133 (by decide) ?_
          exact ok_Jt_seasonGoes_144 hf kr
theorem met_f_t_seasonGoes (l : Launch) {D : TD} {m : Nat} {τ : TS} {o_ : TS} (hf : f_t_seasonGoes τ = some o_) : xMet (wT D m) l yX6_seasonGoes (ws_ yX6_seasonGoes cX6_seasonGoes 4 none) 7 420 0 0 [.ref m] τ (none, o_) :=
  xMet_of (by decide) (Nat.le_of_ble_eq_true rfl) KT_moved (fun _ _ => trivial) (fun K _ _ _ => ok_f_t_seasonGoes hf (fun _ h => by rw [h]))
theorem hd_f_t_seasonGoes : yX6_seasonGoes.cls = RX6 ∧ yX6_seasonGoes.cls ≠ "java/lang/invoke/MethodHandle" ∧ yX6_seasonGoes.cls ≠ "java/lang/invoke/VarHandle" ∧ (parseMethodDescriptor yX6_seasonGoes.desc).map (fun d => d.parameters.length) = some 0 := by decide +kernel
theorem call_f_t_seasonGoes {D : TD} {m : Nat} {K : xK} {M : xM} {Q : State → Prop} {τ : TS} {pc : Nat} {loc : List (Nat × Value)} {st : List Value} {τ1 : TS} (hf : f_t_seasonGoes τ = some τ1) (ho : M.2.2.1 = RX6) (hfr : 8 ≤ M.2.2.2.1) (hlo : 443 ≤ M.2.2.2.2.1) (hcat : (st.map fun v => v.category).sum ≤ 8) (d : decode M.1 pc = .ok (.invokevirtual 570, 3)) (k : xV (wT D m) K M Q τ1 (pc + 3) loc st) : xV (wT D m) K M Q τ pc loc (.ref m :: st) :=
  xr_callV (As := []) (rest := st) (met_f_t_seasonGoes K.2.1 hf) (lw_V q2505 q2507 qs138 q186 q2508) hd_f_t_seasonGoes ho hfr hlo rfl (fun H hR hK => t_recv H hR hK) rfl hcat d k
abbrev mX6_seasonsGo : xM := (cX6_seasonsGo, 3, RX6, 8, 480, none, "seasonsGo")
def Bt_seasonsGo_2 (x1 : Int32) (x2 : Int32) (τ : TS) : Option ((Int32 × TS) ⊕ ((TS))) :=
  if x1 ≤ x2 then
  some (.inr τ)
  else
  (f_t_seasonGoes τ).bind fun τ1 =>
  some (.inl (x2 + 1, τ1))
theorem ok_Bt_seasonsGo_2 {D : TD} {m : Nat} {K : xK} {Z : Option Value × TS} {x1 : Int32} {x2 : Int32} {τ : TS} {o_ : ((Int32 × TS) ⊕ ((TS)))} (hf : Bt_seasonsGo_2 x1 x2 τ = some o_) (kc : ∀ s_ : Int32 × TS, o_ = .inl s_ → xV (wT D m) K mX6_seasonsGo (xQ (wT D m) K Z) s_.2 2 [(0, .ref m), (1, .int x1), (2, .int s_.1)] []) (ke0 : ∀ e_ : TS, o_ = .inr e_ → xV (wT D m) K mX6_seasonsGo (xQ (wT D m) K Z) e_ 17 [] []) : xV (wT D m) K mX6_seasonsGo (xQ (wT D m) K Z) τ 2 [(0, .ref m), (1, .int x1), (2, .int x2)] [] := by
  unfold Bt_seasonsGo_2 at hf
  refine xr_iload_n (pc := 2) 2 dX6_seasonsGo_2 rfl rfl ?_
  refine xr_iload_n (pc := 3) 1 dX6_seasonsGo_3 rfl rfl ?_
  refine xr_icmp_ge (pc := 4) 17 dX6_seasonsGo_4 (by decide) (fun c_ => ?_) (fun c_ => ?_)
  · have hf := xo_pos c_ hf
    refine xV_sub [] rfl ?_
    exact ke0 _ (Option.some.inj hf).symm
  · have hf := xo_neg c_ hf
    refine xr_aload_n (pc := 7) 0 dX6_seasonsGo_7 rfl rfl ?_
    obtain ⟨τ1, hτ1, hf⟩ := xo_bind hf
    refine call_f_t_seasonGoes (pc := 8) hτ1 rfl (Nat.le_of_ble_eq_true rfl) (Nat.le_of_ble_eq_true rfl) (Nat.le_of_ble_eq_true rfl) dX6_seasonsGo_8 ?_
    refine xr_iinc (pc := 11) (loc' := [(2, .int (x2 + 1)), (0, .ref m), (1, .int x1)]) 2 dX6_seasonsGo_11 rfl xci_1 (by decide) rfl ?_
    refine xr_goto (pc := 14) 2 dX6_seasonsGo_14 (by decide) ?_
    refine xV_sub [1, 2, 0] rfl ?_
    exact kc _ (Option.some.inj hf).symm
def f_t_seasonsGo (x1 : Int32) (τ : TS) : Option TS :=
  (itr (fun s_ : Int32 × TS => Bt_seasonsGo_2 x1 s_.1 s_.2) 4096 (0, τ)).bind fun b2 =>
  some (b2)
theorem ok_f_t_seasonsGo {D : TD} {m : Nat} {K : xK} {Z : Option Value × TS} {x1 : Int32} {τ : TS} {o_ : TS} (hf : f_t_seasonsGo x1 τ = some o_) (kr : ∀ r_ : TS, o_ = r_ → Z = (none, r_)) : xV (wT D m) K mX6_seasonsGo (xQ (wT D m) K Z) τ 0 [(0, .ref m), (1, .int x1)] [] := by
  unfold f_t_seasonsGo at hf
  refine xr_iconst (pc := 0) dX6_seasonsGo_0 xci_0 ?_
  refine xr_istore_n (pc := 1) (loc' := [(2, .int 0), (0, .ref m), (1, .int x1)]) dX6_seasonsGo_1 rfl (by decide) rfl ?_
  refine xV_sub [1, 2, 0] rfl ?_
  obtain ⟨b2, hb2, hf⟩ := xo_bind hf
  refine itr_rule (P := fun s_ : Int32 × TS => xV (wT D m) K mX6_seasonsGo (xQ (wT D m) K Z) s_.2 2 [(0, .ref m), (1, .int x1), (2, .int s_.1)] []) (fun s_ o_ hB_ hc_ he_ => ok_Bt_seasonsGo_2 hB_ hc_ (fun e_ h_ => ?_)) 4096 _ hb2
  · have e9_ := he_ _ h_
    rw [e9_]
    rw [kr _ (Option.some.inj hf).symm]
    exact xr_vret (pc := 17) dX6_seasonsGo_17 rfl
theorem met_f_t_seasonsGo (l : Launch) {D : TD} {m : Nat} {x1 : Int32} {τ : TS} {o_ : TS} (hf : f_t_seasonsGo x1 τ = some o_) : xMet (wT D m) l yX6_seasonsGo (ws_ yX6_seasonsGo cX6_seasonsGo 3 none) 8 480 0 0 [.ref m, .int x1] τ (none, o_) :=
  xMet_of (by decide) (Nat.le_of_ble_eq_true rfl) KT_moved (fun _ _ => trivial) (fun K _ _ _ => ok_f_t_seasonsGo hf (fun _ h => by rw [h]))
theorem hd_f_t_seasonsGo : yX6_seasonsGo.cls = RX6 ∧ yX6_seasonsGo.cls ≠ "java/lang/invoke/MethodHandle" ∧ yX6_seasonsGo.cls ≠ "java/lang/invoke/VarHandle" ∧ (parseMethodDescriptor yX6_seasonsGo.desc).map (fun d => d.parameters.length) = some 1 := by decide +kernel
theorem call_f_t_seasonsGo {D : TD} {m : Nat} {K : xK} {M : xM} {Q : State → Prop} {x1 : Int32} {τ : TS} {pc : Nat} {loc : List (Nat × Value)} {st : List Value} {τ1 : TS} (hf : f_t_seasonsGo x1 τ = some τ1) (ho : M.2.2.1 = RX6) (hfr : 9 ≤ M.2.2.2.1) (hlo : 502 ≤ M.2.2.2.2.1) (hcat : (st.map fun v => v.category).sum ≤ 8) (d : decode M.1 pc = .ok (.invokevirtual 612, 3)) (k : xV (wT D m) K M Q τ1 (pc + 3) loc st) : xV (wT D m) K M Q τ pc loc (.int x1 :: .ref m :: st) :=
  xr_callV (As := [.int x1]) (rest := st) (met_f_t_seasonsGo K.2.1 hf) (lw_V q2501 q2503 qs137 q186 q2504) hd_f_t_seasonsGo ho hfr hlo rfl (fun H hR hK => t_recv H hR hK) rfl hcat d k
abbrev mX6_triesAnew : xM := (cX6_triesAnew, 2, RX6, 0, 0, none, "triesAnew")
def Bt_triesAnew_2 (x1 : Int32) (τ : TS) : Option ((Int32 × TS) ⊕ ((TS))) :=
  if 182 ≤ x1 then
  some (.inr τ)
  else
  if xin x1 182 = true then
  if xin x1 303 = true then
  some (.inl (x1 + 1, sA τ 62 x1.toNatClampNeg (tA τ 63 x1.toNatClampNeg)))
  else none
  else none
theorem ok_Bt_triesAnew_2 {D : TD} {m : Nat} {K : xK} {Z : Option Value × TS} {x1 : Int32} {τ : TS} {o_ : ((Int32 × TS) ⊕ ((TS)))} (hf : Bt_triesAnew_2 x1 τ = some o_) (kc : ∀ s_ : Int32 × TS, o_ = .inl s_ → xV (wT D m) K mX6_triesAnew (xQ (wT D m) K Z) s_.2 2 [(0, .ref m), (1, .int s_.1)] []) (ke0 : ∀ e_ : TS, o_ = .inr e_ → xV (wT D m) K mX6_triesAnew (xQ (wT D m) K Z) e_ 27 [] []) : xV (wT D m) K mX6_triesAnew (xQ (wT D m) K Z) τ 2 [(0, .ref m), (1, .int x1)] [] := by
  unfold Bt_triesAnew_2 at hf
  refine xr_iload_n (pc := 2) 1 dX6_triesAnew_2 rfl rfl ?_
  refine xr_sipush (pc := 3) dX6_triesAnew_3 xcs_182 ?_
  refine xr_icmp_ge (pc := 6) 27 dX6_triesAnew_6 (by decide) (fun c_ => ?_) (fun c_ => ?_)
  · have hf := xo_pos c_ hf
    refine xV_sub [] rfl ?_
    exact ke0 _ (Option.some.inj hf).symm
  · have hf := xo_neg c_ hf
    refine xr_aload_n (pc := 9) 0 dX6_triesAnew_9 rfl rfl ?_
    refine xt_getA (pc := 10) 62 (by decide) q1808 rfl rfl rfl dX6_triesAnew_10 ?_
    refine xr_iload_n (pc := 13) 1 dX6_triesAnew_13 rfl rfl ?_
    refine xr_aload_n (pc := 14) 0 dX6_triesAnew_14 rfl rfl ?_
    refine xt_getA (pc := 15) 63 (by decide) q1809 rfl rfl rfl dX6_triesAnew_15 ?_
    refine xr_iload_n (pc := 18) 1 dX6_triesAnew_18 rfl rfl ?_
    obtain ⟨hi_, hf⟩ := xo_if hf
    refine xt_iald (pc := 19) 63 rfl rfl hi_ dX6_triesAnew_19 ?_
    obtain ⟨hi_, hf⟩ := xo_if hf
    refine xt_iast (pc := 20) 62 rfl rfl hi_ dX6_triesAnew_20 ?_
    refine xr_iinc (pc := 21) (loc' := [(1, .int (x1 + 1)), (0, .ref m)]) 1 dX6_triesAnew_21 rfl xci_1 (by decide) rfl ?_
    refine xr_goto (pc := 24) 2 dX6_triesAnew_24 (by decide) ?_
    refine xV_sub [1, 0] rfl ?_
    exact kc _ (Option.some.inj hf).symm
def f_t_triesAnew (τ : TS) : Option TS :=
  (itr (fun s_ : Int32 × TS => Bt_triesAnew_2 s_.1 s_.2) 4096 (0, τ)).bind fun b1 =>
  some (b1)
theorem ok_f_t_triesAnew {D : TD} {m : Nat} {K : xK} {Z : Option Value × TS} {τ : TS} {o_ : TS} (hf : f_t_triesAnew τ = some o_) (kr : ∀ r_ : TS, o_ = r_ → Z = (none, r_)) : xV (wT D m) K mX6_triesAnew (xQ (wT D m) K Z) τ 0 [(0, .ref m)] [] := by
  unfold f_t_triesAnew at hf
  refine xr_iconst (pc := 0) dX6_triesAnew_0 xci_0 ?_
  refine xr_istore_n (pc := 1) (loc' := [(1, .int 0), (0, .ref m)]) dX6_triesAnew_1 rfl (by decide) rfl ?_
  refine xV_sub [1, 0] rfl ?_
  obtain ⟨b1, hb1, hf⟩ := xo_bind hf
  refine itr_rule (P := fun s_ : Int32 × TS => xV (wT D m) K mX6_triesAnew (xQ (wT D m) K Z) s_.2 2 [(0, .ref m), (1, .int s_.1)] []) (fun s_ o_ hB_ hc_ he_ => ok_Bt_triesAnew_2 hB_ hc_ (fun e_ h_ => ?_)) 4096 _ hb1
  · have e9_ := he_ _ h_
    rw [e9_]
    rw [kr _ (Option.some.inj hf).symm]
    exact xr_vret (pc := 27) dX6_triesAnew_27 rfl
theorem met_f_t_triesAnew (l : Launch) {D : TD} {m : Nat} {τ : TS} {o_ : TS} (hf : f_t_triesAnew τ = some o_) : xMet (wT D m) l yX6_triesAnew (ws_ yX6_triesAnew cX6_triesAnew 2 none) 0 0 0 0 [.ref m] τ (none, o_) :=
  xMet_of (by decide) (Nat.le_of_ble_eq_true rfl) KT_moved (fun _ _ => trivial) (fun K _ _ _ => ok_f_t_triesAnew hf (fun _ h => by rw [h]))
theorem hd_f_t_triesAnew : yX6_triesAnew.cls = RX6 ∧ yX6_triesAnew.cls ≠ "java/lang/invoke/MethodHandle" ∧ yX6_triesAnew.cls ≠ "java/lang/invoke/VarHandle" ∧ (parseMethodDescriptor yX6_triesAnew.desc).map (fun d => d.parameters.length) = some 0 := by decide +kernel
theorem call_f_t_triesAnew {D : TD} {m : Nat} {K : xK} {M : xM} {Q : State → Prop} {τ : TS} {pc : Nat} {loc : List (Nat × Value)} {st : List Value} {τ1 : TS} (hf : f_t_triesAnew τ = some τ1) (ho : M.2.2.1 = RX6) (hfr : 1 ≤ M.2.2.2.1) (hlo : 21 ≤ M.2.2.2.2.1) (hcat : (st.map fun v => v.category).sum ≤ 8) (d : decode M.1 pc = .ok (.invokevirtual 573, 3)) (k : xV (wT D m) K M Q τ1 (pc + 3) loc st) : xV (wT D m) K M Q τ pc loc (.ref m :: st) :=
  xr_callV (As := []) (rest := st) (met_f_t_triesAnew K.2.1 hf) (lw_V q2530 q2532 qs144 q186 q2533) hd_f_t_triesAnew ho hfr hlo rfl (fun H hR hK => t_recv H hR hK) rfl hcat d k
abbrev mX6_takesBack : xM := (cX6_takesBack, 1, RX6, 1, 60, none, "takesBack")
def f_t_takesBack (τ : TS) : Option TS :=
  (f_t_triesAnew τ).bind fun τ1 =>
  some (sI τ1 70 0)
theorem ok_f_t_takesBack {D : TD} {m : Nat} {K : xK} {Z : Option Value × TS} {τ : TS} {o_ : TS} (hf : f_t_takesBack τ = some o_) (kr : ∀ r_ : TS, o_ = r_ → Z = (none, r_)) : xV (wT D m) K mX6_takesBack (xQ (wT D m) K Z) τ 0 [(0, .ref m)] [] := by
  unfold f_t_takesBack at hf
  refine xr_aload_n (pc := 0) 0 dX6_takesBack_0 rfl rfl ?_
  obtain ⟨τ1, hτ1, hf⟩ := xo_bind hf
  refine call_f_t_triesAnew (pc := 1) hτ1 rfl (Nat.le_of_ble_eq_true rfl) (Nat.le_of_ble_eq_true rfl) (Nat.le_of_ble_eq_true rfl) dX6_takesBack_1 ?_
  refine xr_aload_n (pc := 4) 0 dX6_takesBack_4 rfl rfl ?_
  refine xr_iconst (pc := 5) dX6_takesBack_5 xci_0 ?_
  refine xt_putZ (pc := 6) 70 (by decide) q1816 rfl rfl rfl (by decide +kernel) (by decide) (by decide) rfl dX6_takesBack_6 ?_
  rw [kr _ (Option.some.inj hf).symm]
  exact xr_vret (pc := 9) dX6_takesBack_9 rfl
theorem met_f_t_takesBack (l : Launch) {D : TD} {m : Nat} {τ : TS} {o_ : TS} (hf : f_t_takesBack τ = some o_) : xMet (wT D m) l yX6_takesBack (ws_ yX6_takesBack cX6_takesBack 1 none) 1 60 0 0 [.ref m] τ (none, o_) :=
  xMet_of (by decide) (Nat.le_of_ble_eq_true rfl) KT_moved (fun _ _ => trivial) (fun K _ _ _ => ok_f_t_takesBack hf (fun _ h => by rw [h]))
theorem hd_f_t_takesBack : yX6_takesBack.cls = RX6 ∧ yX6_takesBack.cls ≠ "java/lang/invoke/MethodHandle" ∧ yX6_takesBack.cls ≠ "java/lang/invoke/VarHandle" ∧ (parseMethodDescriptor yX6_takesBack.desc).map (fun d => d.parameters.length) = some 0 := by decide +kernel
theorem call_f_t_takesBack {D : TD} {m : Nat} {K : xK} {M : xM} {Q : State → Prop} {τ : TS} {pc : Nat} {loc : List (Nat × Value)} {st : List Value} {τ1 : TS} (hf : f_t_takesBack τ = some τ1) (ho : M.2.2.1 = RX6) (hfr : 2 ≤ M.2.2.2.1) (hlo : 80 ≤ M.2.2.2.2.1) (hcat : (st.map fun v => v.category).sum ≤ 8) (d : decode M.1 pc = .ok (.invokevirtual 615, 3)) (k : xV (wT D m) K M Q τ1 (pc + 3) loc st) : xV (wT D m) K M Q τ pc loc (.ref m :: st) :=
  xr_callV (As := []) (rest := st) (met_f_t_takesBack K.2.1 hf) (lw_V q2526 q2528 qs143 q186 q2529) hd_f_t_takesBack ho hfr hlo rfl (fun H hR hK => t_recv H hR hK) rfl hcat d k
