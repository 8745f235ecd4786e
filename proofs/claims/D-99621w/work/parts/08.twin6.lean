set_option maxRecDepth 100000
abbrev mX6_lordsFrom : xM := (cX6_lordsFrom, 1, RX6, 2, 120, (some .int), "lordsFrom")
def f_t_lordsFrom (τ : TS) : Option (Int32 × TS) :=
  xbd (f_t_cellsFrom τ) fun r1 τ1 =>
  xbd (f_t_columnMany τ1) fun r2 τ2 =>
  xbd (f_t_rowsMany τ2) fun r3 τ3 =>
  some ((r1 + ((2 * r2) * r3), τ3))
theorem ok_f_t_lordsFrom {D : TD} {m : Nat} {K : xK} {Z : Option Value × TS} {τ : TS} {o_ : (Int32 × TS)} (hf : f_t_lordsFrom τ = some o_) (kr : ∀ r_ : (Int32 × TS), o_ = r_ → Z = (some (.int r_.1), r_.2)) : xV (wT D m) K mX6_lordsFrom (xQ (wT D m) K Z) τ 0 [(0, .ref m)] [] := by
  unfold f_t_lordsFrom at hf
  refine xr_aload_n (pc := 0) 0 dX6_lordsFrom_0 rfl rfl ?_
  obtain ⟨r1, τ1, hτ1, hf⟩ := xo_bd hf
  refine call_f_t_cellsFrom (pc := 1) hτ1 rfl (Nat.le_of_ble_eq_true rfl) (Nat.le_of_ble_eq_true rfl) (Nat.le_of_ble_eq_true rfl) dX6_lordsFrom_1 ?_
  refine xr_iconst (pc := 4) dX6_lordsFrom_4 xci_2 ?_
  refine xr_aload_n (pc := 5) 0 dX6_lordsFrom_5 rfl rfl ?_
  obtain ⟨r2, τ2, hτ2, hf⟩ := xo_bd hf
  refine call_f_t_columnMany (pc := 6) hτ2 rfl (Nat.le_of_ble_eq_true rfl) (Nat.le_of_ble_eq_true rfl) (Nat.le_of_ble_eq_true rfl) dX6_lordsFrom_6 ?_
  refine xr_imul (pc := 9) dX6_lordsFrom_9 ?_
  refine xr_aload_n (pc := 10) 0 dX6_lordsFrom_10 rfl rfl ?_
  obtain ⟨r3, τ3, hτ3, hf⟩ := xo_bd hf
  refine call_f_t_rowsMany (pc := 11) hτ3 rfl (Nat.le_of_ble_eq_true rfl) (Nat.le_of_ble_eq_true rfl) (Nat.le_of_ble_eq_true rfl) dX6_lordsFrom_11 ?_
  refine xr_imul (pc := 14) dX6_lordsFrom_14 ?_
  refine xr_iadd (pc := 15) dX6_lordsFrom_15 ?_
  rw [kr _ (Option.some.inj hf).symm]
  exact xr_iret (pc := 16) dX6_lordsFrom_16 rfl
theorem met_f_t_lordsFrom (l : Launch) {D : TD} {m : Nat} {τ : TS} {o_ : (Int32 × TS)} (hf : f_t_lordsFrom τ = some o_) : xMet (wT D m) l yX6_lordsFrom (ws_ yX6_lordsFrom cX6_lordsFrom 1 (some .int)) 2 120 0 0 [.ref m] τ (some (.int o_.1), o_.2) :=
  xMet_of (by decide) (Nat.le_of_ble_eq_true rfl) KT_moved (fun _ _ => trivial) (fun K _ _ _ => ok_f_t_lordsFrom hf (fun _ h => by rw [h]))
theorem hd_f_t_lordsFrom : yX6_lordsFrom.cls = RX6 ∧ yX6_lordsFrom.cls ≠ "java/lang/invoke/MethodHandle" ∧ yX6_lordsFrom.cls ≠ "java/lang/invoke/VarHandle" ∧ (parseMethodDescriptor yX6_lordsFrom.desc).map (fun d => d.parameters.length) = some 0 := by decide +kernel
theorem call_f_t_lordsFrom {D : TD} {m : Nat} {K : xK} {M : xM} {Q : State → Prop} {τ : TS} {pc : Nat} {loc : List (Nat × Value)} {st : List Value} {r : Int32} {τ1 : TS} (hf : f_t_lordsFrom τ = some (r, τ1)) (ho : M.2.2.1 = RX6) (hfr : 3 ≤ M.2.2.2.1) (hlo : 140 ≤ M.2.2.2.2.1) (hcat : (st.map fun v => v.category).sum ≤ 8) (d : decode M.1 pc = .ok (.invokevirtual 804, 3)) (k : xV (wT D m) K M Q τ1 (pc + 3) loc (.int r :: st)) : xV (wT D m) K M Q τ pc loc (.ref m :: st) :=
  xr_callV (As := []) (rest := st) (met_f_t_lordsFrom K.2.1 hf) (lw_V q2731 q2733 qs170 q186 q2734) hd_f_t_lordsFrom ho hfr hlo rfl (fun H hR hK => t_recv H hR hK) rfl hcat d k
abbrev mX6_twoAt : xM := (cX6_twoAt, 2, RX6, 0, 0, (some .int), "twoAt")
def f_t_twoAt (x1 : Int32) (τ : TS) : Option (Int32 × TS) :=
  if xin x1 1600 = true then
  if xin (x1 + 1) 1600 = true then
  some (((256 * (tA τ 0 x1.toNatClampNeg)) + (tA τ 0 (x1 + 1).toNatClampNeg), τ))
  else none
  else none
theorem ok_f_t_twoAt {D : TD} {m : Nat} {K : xK} {Z : Option Value × TS} {x1 : Int32} {τ : TS} {o_ : (Int32 × TS)} (hf : f_t_twoAt x1 τ = some o_) (kr : ∀ r_ : (Int32 × TS), o_ = r_ → Z = (some (.int r_.1), r_.2)) : xV (wT D m) K mX6_twoAt (xQ (wT D m) K Z) τ 0 [(0, .ref m), (1, .int x1)] [] := by
  unfold f_t_twoAt at hf
  refine xr_sipush (pc := 0) dX6_twoAt_0 xcs_256 ?_
  refine xr_aload_n (pc := 3) 0 dX6_twoAt_3 rfl rfl ?_
  refine xt_getA (pc := 4) 0 (by decide) q1746 rfl rfl rfl dX6_twoAt_4 ?_
  refine xr_iload_n (pc := 7) 1 dX6_twoAt_7 rfl rfl ?_
  obtain ⟨hi_, hf⟩ := xo_if hf
  refine xt_iald (pc := 8) 0 rfl rfl hi_ dX6_twoAt_8 ?_
  refine xr_imul (pc := 9) dX6_twoAt_9 ?_
  refine xr_aload_n (pc := 10) 0 dX6_twoAt_10 rfl rfl ?_
  refine xt_getA (pc := 11) 0 (by decide) q1746 rfl rfl rfl dX6_twoAt_11 ?_
  refine xr_iload_n (pc := 14) 1 dX6_twoAt_14 rfl rfl ?_
  refine xr_iconst (pc := 15) dX6_twoAt_15 xci_1 ?_
  refine xr_iadd (pc := 16) dX6_twoAt_16 ?_
  obtain ⟨hi_, hf⟩ := xo_if hf
  refine xt_iald (pc := 17) 0 rfl rfl hi_ dX6_twoAt_17 ?_
  refine xr_iadd (pc := 18) dX6_twoAt_18 ?_
  rw [kr _ (Option.some.inj hf).symm]
  exact xr_iret (pc := 19) dX6_twoAt_19 rfl
theorem met_f_t_twoAt (l : Launch) {D : TD} {m : Nat} {x1 : Int32} {τ : TS} {o_ : (Int32 × TS)} (hf : f_t_twoAt x1 τ = some o_) : xMet (wT D m) l yX6_twoAt (ws_ yX6_twoAt cX6_twoAt 2 (some .int)) 0 0 0 0 [.ref m, .int x1] τ (some (.int o_.1), o_.2) :=
  xMet_of (by decide) (Nat.le_of_ble_eq_true rfl) KT_moved (fun _ _ => trivial) (fun K _ _ _ => ok_f_t_twoAt hf (fun _ h => by rw [h]))
theorem hd_f_t_twoAt : yX6_twoAt.cls = RX6 ∧ yX6_twoAt.cls ≠ "java/lang/invoke/MethodHandle" ∧ yX6_twoAt.cls ≠ "java/lang/invoke/VarHandle" ∧ (parseMethodDescriptor yX6_twoAt.desc).map (fun d => d.parameters.length) = some 1 := by decide +kernel
theorem call_f_t_twoAt {D : TD} {m : Nat} {K : xK} {M : xM} {Q : State → Prop} {x1 : Int32} {τ : TS} {pc : Nat} {loc : List (Nat × Value)} {st : List Value} {r : Int32} {τ1 : TS} (hf : f_t_twoAt x1 τ = some (r, τ1)) (ho : M.2.2.1 = RX6) (hfr : 1 ≤ M.2.2.2.1) (hlo : 21 ≤ M.2.2.2.2.1) (hcat : (st.map fun v => v.category).sum ≤ 8) (d : decode M.1 pc = .ok (.invokevirtual 807, 3)) (k : xV (wT D m) K M Q τ1 (pc + 3) loc (.int r :: st)) : xV (wT D m) K M Q τ pc loc (.int x1 :: .ref m :: st) :=
  xr_callV (As := [.int x1]) (rest := st) (met_f_t_twoAt K.2.1 hf) (lw_V q2739 q2741 qs172 q186 q2742) hd_f_t_twoAt ho hfr hlo rfl (fun H hR hK => t_recv H hR hK) rfl hcat d k
abbrev mX6_isImage : xM := (cX6_isImage, 3, RX6, 3, 180, (some .boolean), "isImage")
def Bt_isImage_82 (x1 : Int32) (x2 : Int32) (τ : TS) : Option ((Int32 × TS) ⊕ ((TS) ⊕ ((Int32 × TS)))) :=
  xbd (f_t_cellsFrom τ) fun r6 τ6 =>
  if r6 ≤ x2 then
  some (.inr (.inl τ6))
  else
  if xin x2 1600 = true then
  xbd (f_t_rowsMany τ6) fun r7 τ7 =>
  if (tA τ6 0 x2.toNatClampNeg) < r7 then
  some (.inl (x2 + 1, τ7))
  else
  some (.inr (.inr (0, τ7)))
  else none
theorem ok_Bt_isImage_82 {D : TD} {m : Nat} {K : xK} {Z : Option Value × TS} {x1 : Int32} {x2 : Int32} {τ : TS} {o_ : ((Int32 × TS) ⊕ ((TS) ⊕ ((Int32 × TS))))} (hf : Bt_isImage_82 x1 x2 τ = some o_) (kc : ∀ s_ : Int32 × TS, o_ = .inl s_ → xV (wT D m) K mX6_isImage (xQ (wT D m) K Z) s_.2 82 [(0, .ref m), (1, .int x1), (2, .int s_.1)] []) (ke0 : ∀ e_ : TS, o_ = .inr (.inl e_) → xV (wT D m) K mX6_isImage (xQ (wT D m) K Z) e_ 111 [(0, .ref m), (1, .int x1)] []) (kr : ∀ r_ : (Int32 × TS), o_ = .inr (.inr r_) → Z = (some (.int r_.1), r_.2)) : xV (wT D m) K mX6_isImage (xQ (wT D m) K Z) τ 82 [(0, .ref m), (1, .int x1), (2, .int x2)] [] := by
  unfold Bt_isImage_82 at hf
  refine xr_iload_n (pc := 82) 2 dX6_isImage_82 rfl rfl ?_
  refine xr_aload_n (pc := 83) 0 dX6_isImage_83 rfl rfl ?_
  obtain ⟨r6, τ6, hτ6, hf⟩ := xo_bd hf
  refine call_f_t_cellsFrom (pc := 84) hτ6 rfl (Nat.le_of_ble_eq_true rfl) (Nat.le_of_ble_eq_true rfl) (Nat.le_of_ble_eq_true rfl) dX6_isImage_84 ?_
  refine xr_icmp_ge (pc := 87) 111 dX6_isImage_87 (by decide) (fun c_ => ?_) (fun c_ => ?_)
  · have hf := xo_pos c_ hf
    refine xV_sub [0, 1] rfl ?_
    exact ke0 _ (Option.some.inj hf).symm
  · have hf := xo_neg c_ hf
    refine xr_aload_n (pc := 90) 0 dX6_isImage_90 rfl rfl ?_
    refine xt_getA (pc := 91) 0 (by decide) q1746 rfl rfl rfl dX6_isImage_91 ?_
    refine xr_iload_n (pc := 94) 2 dX6_isImage_94 rfl rfl ?_
    obtain ⟨hi_, hf⟩ := xo_if hf
    refine xt_iald (pc := 95) 0 rfl rfl hi_ dX6_isImage_95 ?_
    refine xr_aload_n (pc := 96) 0 dX6_isImage_96 rfl rfl ?_
    obtain ⟨r7, τ7, hτ7, hf⟩ := xo_bd hf
    refine call_f_t_rowsMany (pc := 97) hτ7 rfl (Nat.le_of_ble_eq_true rfl) (Nat.le_of_ble_eq_true rfl) (Nat.le_of_ble_eq_true rfl) dX6_isImage_97 ?_
    refine xr_icmp_lt (pc := 100) 105 dX6_isImage_100 (by decide) (fun c_ => ?_) (fun c_ => ?_)
    · have hf := xo_pos c_ hf
      refine xr_iinc (pc := 105) (loc' := [(2, .int (x2 + 1)), (0, .ref m), (1, .int x1)]) 2 dX6_isImage_105 rfl xci_1 (by decide) rfl ?_
      refine xr_goto (pc := 108) 82 dX6_isImage_108 (by decide) ?_
      refine xV_sub [1, 2, 0] rfl ?_
      exact kc _ (Option.some.inj hf).symm
    · have hf := xo_neg c_ hf
      refine xr_iconst (pc := 103) dX6_isImage_103 xci_0 ?_
      rw [kr _ (Option.some.inj hf).symm]
      exact xr_zret (pc := 104) dX6_isImage_104 rfl xz_0
def Bt_isImage_116 (x1 : Int32) (x2 : Int32) (τ : TS) : Option ((Int32 × TS) ⊕ ((TS) ⊕ ((Int32 × TS)))) :=
  xbd (f_t_lordsFrom τ) fun r11 τ11 =>
  if r11 ≤ x2 then
  some (.inr (.inl τ11))
  else
  if xin x2 1600 = true then
  if 9 < (tA τ11 0 x2.toNatClampNeg) then
  some (.inr (.inr (0, τ11)))
  else
  if xin (x2 + 1) 1600 = true then
  if (tA τ11 0 (x2 + 1).toNatClampNeg) ≤ 99 then
  some (.inl (x2 + 2, τ11))
  else
  some (.inr (.inr (0, τ11)))
  else none
  else none
theorem ok_Bt_isImage_116 {D : TD} {m : Nat} {K : xK} {Z : Option Value × TS} {x1 : Int32} {x2 : Int32} {τ : TS} {o_ : ((Int32 × TS) ⊕ ((TS) ⊕ ((Int32 × TS))))} (hf : Bt_isImage_116 x1 x2 τ = some o_) (kc : ∀ s_ : Int32 × TS, o_ = .inl s_ → xV (wT D m) K mX6_isImage (xQ (wT D m) K Z) s_.2 116 [(0, .ref m), (1, .int x1), (2, .int s_.1)] []) (ke0 : ∀ e_ : TS, o_ = .inr (.inl e_) → xV (wT D m) K mX6_isImage (xQ (wT D m) K Z) e_ 156 [(0, .ref m), (1, .int x1)] []) (kr : ∀ r_ : (Int32 × TS), o_ = .inr (.inr r_) → Z = (some (.int r_.1), r_.2)) : xV (wT D m) K mX6_isImage (xQ (wT D m) K Z) τ 116 [(0, .ref m), (1, .int x1), (2, .int x2)] [] := by
  unfold Bt_isImage_116 at hf
  refine xr_iload_n (pc := 116) 2 dX6_isImage_116 rfl rfl ?_
  refine xr_aload_n (pc := 117) 0 dX6_isImage_117 rfl rfl ?_
  obtain ⟨r11, τ11, hτ11, hf⟩ := xo_bd hf
  refine call_f_t_lordsFrom (pc := 118) hτ11 rfl (Nat.le_of_ble_eq_true rfl) (Nat.le_of_ble_eq_true rfl) (Nat.le_of_ble_eq_true rfl) dX6_isImage_118 ?_
  refine xr_icmp_ge (pc := 121) 156 dX6_isImage_121 (by decide) (fun c_ => ?_) (fun c_ => ?_)
  · have hf := xo_pos c_ hf
    refine xV_sub [0, 1] rfl ?_
    exact ke0 _ (Option.some.inj hf).symm
  · have hf := xo_neg c_ hf
    refine xr_aload_n (pc := 124) 0 dX6_isImage_124 rfl rfl ?_
    refine xt_getA (pc := 125) 0 (by decide) q1746 rfl rfl rfl dX6_isImage_125 ?_
    refine xr_iload_n (pc := 128) 2 dX6_isImage_128 rfl rfl ?_
    obtain ⟨hi_, hf⟩ := xo_if hf
    refine xt_iald (pc := 129) 0 rfl rfl hi_ dX6_isImage_129 ?_
    refine xr_bipush (pc := 130) dX6_isImage_130 xcb_9 ?_
    refine xr_icmp_gt (pc := 132) 148 dX6_isImage_132 (by decide) (fun c_ => ?_) (fun c_ => ?_)
    · have hf := xo_pos c_ hf
      refine xr_iconst (pc := 148) dX6_isImage_148 xci_0 ?_
      rw [kr _ (Option.some.inj hf).symm]
      exact xr_zret (pc := 149) dX6_isImage_149 rfl xz_0
    · have hf := xo_neg c_ hf
      refine xr_aload_n (pc := 135) 0 dX6_isImage_135 rfl rfl ?_
      refine xt_getA (pc := 136) 0 (by decide) q1746 rfl rfl rfl dX6_isImage_136 ?_
      refine xr_iload_n (pc := 139) 2 dX6_isImage_139 rfl rfl ?_
      refine xr_iconst (pc := 140) dX6_isImage_140 xci_1 ?_
      refine xr_iadd (pc := 141) dX6_isImage_141 ?_
      obtain ⟨hi_, hf⟩ := xo_if hf
      refine xt_iald (pc := 142) 0 rfl rfl hi_ dX6_isImage_142 ?_
      refine xr_bipush (pc := 143) dX6_isImage_143 xcb_99 ?_
      refine xr_icmp_le (pc := 145) 150 dX6_isImage_145 (by decide) (fun c_ => ?_) (fun c_ => ?_)
      · have hf := xo_pos c_ hf
        refine xr_iinc (pc := 150) (loc' := [(2, .int (x2 + 2)), (0, .ref m), (1, .int x1)]) 2 dX6_isImage_150 rfl xci_2 (by decide) rfl ?_
        refine xr_goto (pc := 153) 116 dX6_isImage_153 (by decide) ?_
        refine xV_sub [1, 2, 0] rfl ?_
        exact kc _ (Option.some.inj hf).symm
      · have hf := xo_neg c_ hf
        refine xr_iconst (pc := 148) dX6_isImage_148 xci_0 ?_
        rw [kr _ (Option.some.inj hf).symm]
        exact xr_zret (pc := 149) dX6_isImage_149 rfl xz_0
def Bt_isImage_161 (x1 : Int32) (x2 : Int32) (τ : TS) : Option ((Int32 × TS) ⊕ ((TS) ⊕ ((Int32 × TS)))) :=
  if (x1 - 1) ≤ x2 then
  some (.inr (.inl τ))
  else
  if xin x2 1600 = true then
  if 1 < (tA τ 0 x2.toNatClampNeg) then
  some (.inr (.inr (0, τ)))
  else
  xbd (f_t_twoAt (x2 + 1) τ) fun r15 τ15 =>
  if r15 ≤ 999 then
  some (.inl (x2 + 3, τ15))
  else
  some (.inr (.inr (0, τ15)))
  else none
theorem ok_Bt_isImage_161 {D : TD} {m : Nat} {K : xK} {Z : Option Value × TS} {x1 : Int32} {x2 : Int32} {τ : TS} {o_ : ((Int32 × TS) ⊕ ((TS) ⊕ ((Int32 × TS))))} (hf : Bt_isImage_161 x1 x2 τ = some o_) (kc : ∀ s_ : Int32 × TS, o_ = .inl s_ → xV (wT D m) K mX6_isImage (xQ (wT D m) K Z) s_.2 161 [(0, .ref m), (1, .int x1), (2, .int s_.1)] []) (ke0 : ∀ e_ : TS, o_ = .inr (.inl e_) → xV (wT D m) K mX6_isImage (xQ (wT D m) K Z) e_ 199 [] []) (kr : ∀ r_ : (Int32 × TS), o_ = .inr (.inr r_) → Z = (some (.int r_.1), r_.2)) : xV (wT D m) K mX6_isImage (xQ (wT D m) K Z) τ 161 [(0, .ref m), (1, .int x1), (2, .int x2)] [] := by
  unfold Bt_isImage_161 at hf
  refine xr_iload_n (pc := 161) 2 dX6_isImage_161 rfl rfl ?_
  refine xr_iload_n (pc := 162) 1 dX6_isImage_162 rfl rfl ?_
  refine xr_iconst (pc := 163) dX6_isImage_163 xci_1 ?_
  refine xr_isub (pc := 164) dX6_isImage_164 ?_
  refine xr_icmp_ge (pc := 165) 199 dX6_isImage_165 (by decide) (fun c_ => ?_) (fun c_ => ?_)
  · have hf := xo_pos c_ hf
    refine xV_sub [] rfl ?_
    exact ke0 _ (Option.some.inj hf).symm
  · have hf := xo_neg c_ hf
    refine xr_aload_n (pc := 168) 0 dX6_isImage_168 rfl rfl ?_
    refine xt_getA (pc := 169) 0 (by decide) q1746 rfl rfl rfl dX6_isImage_169 ?_
    refine xr_iload_n (pc := 172) 2 dX6_isImage_172 rfl rfl ?_
    obtain ⟨hi_, hf⟩ := xo_if hf
    refine xt_iald (pc := 173) 0 rfl rfl hi_ dX6_isImage_173 ?_
    refine xr_iconst (pc := 174) dX6_isImage_174 xci_1 ?_
    refine xr_icmp_gt (pc := 175) 191 dX6_isImage_175 (by decide) (fun c_ => ?_) (fun c_ => ?_)
    · have hf := xo_pos c_ hf
      refine xr_iconst (pc := 191) dX6_isImage_191 xci_0 ?_
      rw [kr _ (Option.some.inj hf).symm]
      exact xr_zret (pc := 192) dX6_isImage_192 rfl xz_0
    · have hf := xo_neg c_ hf
      refine xr_aload_n (pc := 178) 0 dX6_isImage_178 rfl rfl ?_
      refine xr_iload_n (pc := 179) 2 dX6_isImage_179 rfl rfl ?_
      refine xr_iconst (pc := 180) dX6_isImage_180 xci_1 ?_
      refine xr_iadd (pc := 181) dX6_isImage_181 ?_
      obtain ⟨r15, τ15, hτ15, hf⟩ := xo_bd hf
      refine call_f_t_twoAt (pc := 182) hτ15 rfl (Nat.le_of_ble_eq_true rfl) (Nat.le_of_ble_eq_true rfl) (Nat.le_of_ble_eq_true rfl) dX6_isImage_182 ?_
      refine xr_sipush (pc := 185) dX6_isImage_185 xcs_999 ?_
      refine xr_icmp_le (pc := 188) 193 dX6_isImage_188 (by decide) (fun c_ => ?_) (fun c_ => ?_)
      · have hf := xo_pos c_ hf
        refine xr_iinc (pc := 193) (loc' := [(2, .int (x2 + 3)), (0, .ref m), (1, .int x1)]) 2 dX6_isImage_193 rfl xci_3 (by decide) rfl ?_
        refine xr_goto (pc := 196) 161 dX6_isImage_196 (by decide) ?_
        refine xV_sub [1, 2, 0] rfl ?_
        exact kc _ (Option.some.inj hf).symm
      · have hf := xo_neg c_ hf
        refine xr_iconst (pc := 191) dX6_isImage_191 xci_0 ?_
        rw [kr _ (Option.some.inj hf).symm]
        exact xr_zret (pc := 192) dX6_isImage_192 rfl xz_0
def f_t_isImage (x1 : Int32) (τ : TS) : Option (Int32 × TS) :=
  if (tI τ 60) = 0 then
  some ((0, τ))
  else
  xbd (f_t_lordsFrom τ) fun r1 τ1 =>
  xbd (f_t_lordMany τ1) fun r2 τ2 =>
  if x1 = ((r1 + (3 * r2)) + 1) then
  if xin (x1 - 1) 1600 = true then
  xbd (f_t_checked 0 (x1 - 1) τ2) fun r3 τ3 =>
  if (tA τ2 0 (x1 - 1).toNatClampNeg) = r3 then
  xbd (f_t_twoAt 0 τ3) fun r4 τ4 =>
  if 999 < r4 then
  some ((0, τ4))
  else
  if xin 2 1600 = true then
  xbd (f_t_twoAt 3 τ4) fun r5 τ5 =>
  if ((65536 * (tA τ4 0 (2 : Int32).toNatClampNeg)) + r5) ≤ 999999 then
  (itr (fun s_ : Int32 × TS => Bt_isImage_82 x1 s_.1 s_.2) 4096 (5, τ5)).bind fun b8 =>
  (Sum.elim (fun e9 => xbd (f_t_cellsFrom e9) fun r10 τ10 =>
  (itr (fun s_ : Int32 × TS => Bt_isImage_116 x1 s_.1 s_.2) 4096 (r10, τ10)).bind fun b12 =>
  (Sum.elim (fun e13 => xbd (f_t_lordsFrom e13) fun r14 τ14 =>
  (itr (fun s_ : Int32 × TS => Bt_isImage_161 x1 s_.1 s_.2) 4096 (r14, τ14)).bind fun b16 =>
  (Sum.elim (fun e17 => some ((1, e17))) (fun r_ => some r_)) b16) (fun r_ => some r_)) b12) (fun r_ => some r_)) b8
  else
  some ((0, τ5))
  else none
  else
  some ((0, τ3))
  else none
  else
  some ((0, τ2))
theorem ok_f_t_isImage {D : TD} {m : Nat} {K : xK} {Z : Option Value × TS} {x1 : Int32} {τ : TS} {o_ : (Int32 × TS)} (hf : f_t_isImage x1 τ = some o_) (kr : ∀ r_ : (Int32 × TS), o_ = r_ → Z = (some (.int r_.1), r_.2)) : xV (wT D m) K mX6_isImage (xQ (wT D m) K Z) τ 0 [(0, .ref m), (1, .int x1)] [] := by
  unfold f_t_isImage at hf
  refine xr_aload_n (pc := 0) 0 dX6_isImage_0 rfl rfl ?_
  refine xt_getI (pc := 1) 60 (by decide) q1806 rfl rfl rfl dX6_isImage_1 ?_
  refine xr_if_eq (pc := 4) 78 dX6_isImage_4 (by decide) (fun c_ => ?_) (fun c_ => ?_)
  · have hf := xo_pos c_ hf
    refine xr_iconst (pc := 78) dX6_isImage_78 xci_0 ?_
    rw [kr _ (Option.some.inj hf).symm]
    exact xr_zret (pc := 79) dX6_isImage_79 rfl xz_0
  · have hf := xo_neg c_ hf
    refine xr_iload_n (pc := 7) 1 dX6_isImage_7 rfl rfl ?_
    refine xr_aload_n (pc := 8) 0 dX6_isImage_8 rfl rfl ?_
    obtain ⟨r1, τ1, hτ1, hf⟩ := xo_bd hf
    refine call_f_t_lordsFrom (pc := 9) hτ1 rfl (Nat.le_of_ble_eq_true rfl) (Nat.le_of_ble_eq_true rfl) (Nat.le_of_ble_eq_true rfl) dX6_isImage_9 ?_
    refine xr_iconst (pc := 12) dX6_isImage_12 xci_3 ?_
    refine xr_aload_n (pc := 13) 0 dX6_isImage_13 rfl rfl ?_
    obtain ⟨r2, τ2, hτ2, hf⟩ := xo_bd hf
    refine call_f_t_lordMany (pc := 14) hτ2 rfl (Nat.le_of_ble_eq_true rfl) (Nat.le_of_ble_eq_true rfl) (Nat.le_of_ble_eq_true rfl) dX6_isImage_14 ?_
    refine xr_imul (pc := 17) dX6_isImage_17 ?_
    refine xr_iadd (pc := 18) dX6_isImage_18 ?_
    refine xr_iconst (pc := 19) dX6_isImage_19 xci_1 ?_
    refine xr_iadd (pc := 20) dX6_isImage_20 ?_
    refine xr_icmp_ne (pc := 21) 78 dX6_isImage_21 (by decide) (fun c_ => ?_) (fun c_ => ?_)
    · have hf := xo_pos c_ hf
      refine xr_aload_n (pc := 24) 0 dX6_isImage_24 rfl rfl ?_
      refine xt_getA (pc := 25) 0 (by decide) q1746 rfl rfl rfl dX6_isImage_25 ?_
      refine xr_iload_n (pc := 28) 1 dX6_isImage_28 rfl rfl ?_
      refine xr_iconst (pc := 29) dX6_isImage_29 xci_1 ?_
      refine xr_isub (pc := 30) dX6_isImage_30 ?_
      obtain ⟨hi_, hf⟩ := xo_if hf
      refine xt_iald (pc := 31) 0 rfl rfl hi_ dX6_isImage_31 ?_
      refine xr_aload_n (pc := 32) 0 dX6_isImage_32 rfl rfl ?_
      refine xt_getA (pc := 33) 0 (by decide) q1746 rfl rfl rfl dX6_isImage_33 ?_
      refine xr_iload_n (pc := 36) 1 dX6_isImage_36 rfl rfl ?_
      refine xr_iconst (pc := 37) dX6_isImage_37 xci_1 ?_
      refine xr_isub (pc := 38) dX6_isImage_38 ?_
      obtain ⟨r3, τ3, hτ3, hf⟩ := xo_bd hf
      refine call_f_t_checked (pc := 39) hτ3 rfl (Nat.le_of_ble_eq_true rfl) (Nat.le_of_ble_eq_true rfl) (Nat.le_of_ble_eq_true rfl) dX6_isImage_39 ?_
      refine xr_icmp_ne (pc := 42) 78 dX6_isImage_42 (by decide) (fun c_ => ?_) (fun c_ => ?_)
      · have hf := xo_pos c_ hf
        refine xr_aload_n (pc := 45) 0 dX6_isImage_45 rfl rfl ?_
        refine xr_iconst (pc := 46) dX6_isImage_46 xci_0 ?_
        obtain ⟨r4, τ4, hτ4, hf⟩ := xo_bd hf
        refine call_f_t_twoAt (pc := 47) hτ4 rfl (Nat.le_of_ble_eq_true rfl) (Nat.le_of_ble_eq_true rfl) (Nat.le_of_ble_eq_true rfl) dX6_isImage_47 ?_
        refine xr_sipush (pc := 50) dX6_isImage_50 xcs_999 ?_
        refine xr_icmp_gt (pc := 53) 78 dX6_isImage_53 (by decide) (fun c_ => ?_) (fun c_ => ?_)
        · have hf := xo_pos c_ hf
          refine xr_iconst (pc := 78) dX6_isImage_78 xci_0 ?_
          rw [kr _ (Option.some.inj hf).symm]
          exact xr_zret (pc := 79) dX6_isImage_79 rfl xz_0
        · have hf := xo_neg c_ hf
          refine xr_ldcw (pc := 56) q2715 dX6_isImage_56 ?_
          refine xr_aload_n (pc := 59) 0 dX6_isImage_59 rfl rfl ?_
          refine xt_getA (pc := 60) 0 (by decide) q1746 rfl rfl rfl dX6_isImage_60 ?_
          refine xr_iconst (pc := 63) dX6_isImage_63 xci_2 ?_
          obtain ⟨hi_, hf⟩ := xo_if hf
          refine xt_iald (pc := 64) 0 rfl rfl hi_ dX6_isImage_64 ?_
          refine xr_imul (pc := 65) dX6_isImage_65 ?_
          refine xr_aload_n (pc := 66) 0 dX6_isImage_66 rfl rfl ?_
          refine xr_iconst (pc := 67) dX6_isImage_67 xci_3 ?_
          obtain ⟨r5, τ5, hτ5, hf⟩ := xo_bd hf
          refine call_f_t_twoAt (pc := 68) hτ5 rfl (Nat.le_of_ble_eq_true rfl) (Nat.le_of_ble_eq_true rfl) (Nat.le_of_ble_eq_true rfl) dX6_isImage_68 ?_
          refine xr_iadd (pc := 71) dX6_isImage_71 ?_
          refine xr_ldcw (pc := 72) q2521 dX6_isImage_72 ?_
          refine xr_icmp_le (pc := 75) 80 dX6_isImage_75 (by decide) (fun c_ => ?_) (fun c_ => ?_)
          · have hf := xo_pos c_ hf
            refine xr_iconst (pc := 80) dX6_isImage_80 xci_5 ?_
            refine xr_istore_n (pc := 81) (loc' := [(2, .int 5), (0, .ref m), (1, .int x1)]) dX6_isImage_81 rfl (by decide) rfl ?_
            refine xV_sub [1, 2, 0] rfl ?_
            obtain ⟨b8, hb8, hf⟩ := xo_bind hf
            refine itr_rule (P := fun s_ : Int32 × TS => xV (wT D m) K mX6_isImage (xQ (wT D m) K Z) s_.2 82 [(0, .ref m), (1, .int x1), (2, .int s_.1)] []) (fun s_ o_ hB_ hc_ he_ => ok_Bt_isImage_82 hB_ hc_ (fun e9 h_ => ?_) (fun r_ h_ => ?_)) 4096 _ hb8
            · have e9_ := he_ _ h_
              subst e9_
              have hf := xo_inl hf
              refine xr_aload_n (pc := 111) 0 dX6_isImage_111 rfl rfl ?_
              obtain ⟨r10, τ10, hτ10, hf⟩ := xo_bd hf
              refine call_f_t_cellsFrom (pc := 112) hτ10 rfl (Nat.le_of_ble_eq_true rfl) (Nat.le_of_ble_eq_true rfl) (Nat.le_of_ble_eq_true rfl) dX6_isImage_112 ?_
              refine xr_istore_n (pc := 115) (loc' := [(2, .int r10), (0, .ref m), (1, .int x1)]) dX6_isImage_115 rfl (by decide) rfl ?_
              refine xV_sub [1, 2, 0] rfl ?_
              obtain ⟨b12, hb12, hf⟩ := xo_bind hf
              refine itr_rule (P := fun s_ : Int32 × TS => xV (wT D m) K mX6_isImage (xQ (wT D m) K Z) s_.2 116 [(0, .ref m), (1, .int x1), (2, .int s_.1)] []) (fun s_ o_ hB_ hc_ he_ => ok_Bt_isImage_116 hB_ hc_ (fun e13 h_ => ?_) (fun r_ h_ => ?_)) 4096 _ hb12
              · have e9_ := he_ _ h_
                subst e9_
                have hf := xo_inl hf
                refine xr_aload_n (pc := 156) 0 dX6_isImage_156 rfl rfl ?_
                obtain ⟨r14, τ14, hτ14, hf⟩ := xo_bd hf
                refine call_f_t_lordsFrom (pc := 157) hτ14 rfl (Nat.le_of_ble_eq_true rfl) (Nat.le_of_ble_eq_true rfl) (Nat.le_of_ble_eq_true rfl) dX6_isImage_157 ?_
                refine xr_istore_n (pc := 160) (loc' := [(2, .int r14), (0, .ref m), (1, .int x1)]) dX6_isImage_160 rfl (by decide) rfl ?_
                refine xV_sub [1, 2, 0] rfl ?_
                obtain ⟨b16, hb16, hf⟩ := xo_bind hf
                refine itr_rule (P := fun s_ : Int32 × TS => xV (wT D m) K mX6_isImage (xQ (wT D m) K Z) s_.2 161 [(0, .ref m), (1, .int x1), (2, .int s_.1)] []) (fun s_ o_ hB_ hc_ he_ => ok_Bt_isImage_161 hB_ hc_ (fun e17 h_ => ?_) (fun r_ h_ => ?_)) 4096 _ hb16
                · have e9_ := he_ _ h_
                  subst e9_
                  have hf := xo_inl hf
                  refine xr_iconst (pc := 199) dX6_isImage_199 xci_1 ?_
                  rw [kr _ (Option.some.inj hf).symm]
                  exact xr_zret (pc := 200) dX6_isImage_200 rfl xz_1
                · have e9_ := he_ _ h_
                  subst e9_
                  have hf := xo_inr hf
                  exact kr _ (Option.some.inj hf).symm
              · have e9_ := he_ _ h_
                subst e9_
                have hf := xo_inr hf
                exact kr _ (Option.some.inj hf).symm
            · have e9_ := he_ _ h_
              subst e9_
              have hf := xo_inr hf
              exact kr _ (Option.some.inj hf).symm
          · have hf := xo_neg c_ hf
            refine xr_iconst (pc := 78) dX6_isImage_78 xci_0 ?_
            rw [kr _ (Option.some.inj hf).symm]
            exact xr_zret (pc := 79) dX6_isImage_79 rfl xz_0
      · have hf := xo_neg c_ hf
        refine xr_iconst (pc := 78) dX6_isImage_78 xci_0 ?_
        rw [kr _ (Option.some.inj hf).symm]
        exact xr_zret (pc := 79) dX6_isImage_79 rfl xz_0
    · have hf := xo_neg c_ hf
      refine xr_iconst (pc := 78) dX6_isImage_78 xci_0 ?_
      rw [kr _ (Option.some.inj hf).symm]
      exact xr_zret (pc := 79) dX6_isImage_79 rfl xz_0
theorem met_f_t_isImage (l : Launch) {D : TD} {m : Nat} {x1 : Int32} {τ : TS} {o_ : (Int32 × TS)} (hf : f_t_isImage x1 τ = some o_) : xMet (wT D m) l yX6_isImage (ws_ yX6_isImage cX6_isImage 3 (some .boolean)) 3 180 0 0 [.ref m, .int x1] τ (some (.int o_.1), o_.2) :=
  xMet_of (by decide) (Nat.le_of_ble_eq_true rfl) KT_moved (fun _ _ => trivial) (fun K _ _ _ => ok_f_t_isImage hf (fun _ h => by rw [h]))
theorem hd_f_t_isImage : yX6_isImage.cls = RX6 ∧ yX6_isImage.cls ≠ "java/lang/invoke/MethodHandle" ∧ yX6_isImage.cls ≠ "java/lang/invoke/VarHandle" ∧ (parseMethodDescriptor yX6_isImage.desc).map (fun d => d.parameters.length) = some 1 := by decide +kernel
theorem call_f_t_isImage {D : TD} {m : Nat} {K : xK} {M : xM} {Q : State → Prop} {x1 : Int32} {τ : TS} {pc : Nat} {loc : List (Nat × Value)} {st : List Value} {r : Int32} {τ1 : TS} (hf : f_t_isImage x1 τ = some (r, τ1)) (ho : M.2.2.1 = RX6) (hfr : 4 ≤ M.2.2.2.1) (hlo : 202 ≤ M.2.2.2.2.1) (hcat : (st.map fun v => v.category).sum ≤ 8) (d : decode M.1 pc = .ok (.invokevirtual 810, 3)) (k : xV (wT D m) K M Q τ1 (pc + 3) loc (.int r :: st)) : xV (wT D m) K M Q τ pc loc (.int x1 :: .ref m :: st) :=
  xr_callV (As := [.int x1]) (rest := st) (met_f_t_isImage K.2.1 hf) (lw_V q2727 q2729 qs169 q186 q2730) hd_f_t_isImage ho hfr hlo rfl (fun H hR hK => t_recv H hR hK) rfl hcat d k
abbrev mX6_on : xM := (cX6_on, 5, RX6, 4, 240, (some .boolean), "on")
def Bt_on_65 (x2 : Int32) (τ : TS) : Option ((Int32 × TS) ⊕ ((TS))) :=
  xbd (f_t_columnMany τ) fun r4 τ4 =>
  if r4 ≤ x2 then
  some (.inr τ4)
  else
  if xin (5 + x2) 1600 = true then
  if xin (2 + x2) 303 = true then
  some (.inl (x2 + 1, sA τ4 62 (2 + x2).toNatClampNeg (tA τ4 0 (5 + x2).toNatClampNeg)))
  else none
  else none
theorem ok_Bt_on_65 {D : TD} {m : Nat} {K : xK} {Z : Option Value × TS} {x2 : Int32} {τ : TS} {o_ : ((Int32 × TS) ⊕ ((TS)))} (hf : Bt_on_65 x2 τ = some o_) (kc : ∀ s_ : Int32 × TS, o_ = .inl s_ → xV (wT D m) K mX6_on (xQ (wT D m) K Z) s_.2 65 [(0, .ref m), (2, .int s_.1)] []) (ke0 : ∀ e_ : TS, o_ = .inr e_ → xV (wT D m) K mX6_on (xQ (wT D m) K Z) e_ 95 [(0, .ref m)] []) : xV (wT D m) K mX6_on (xQ (wT D m) K Z) τ 65 [(0, .ref m), (2, .int x2)] [] := by
  unfold Bt_on_65 at hf
  refine xr_iload_n (pc := 65) 1 dX6_on_65 rfl rfl ?_
  refine xr_aload_n (pc := 66) 0 dX6_on_66 rfl rfl ?_
  obtain ⟨r4, τ4, hτ4, hf⟩ := xo_bd hf
  refine call_f_t_columnMany (pc := 67) hτ4 rfl (Nat.le_of_ble_eq_true rfl) (Nat.le_of_ble_eq_true rfl) (Nat.le_of_ble_eq_true rfl) dX6_on_67 ?_
  refine xr_icmp_ge (pc := 70) 95 dX6_on_70 (by decide) (fun c_ => ?_) (fun c_ => ?_)
  · have hf := xo_pos c_ hf
    refine xV_sub [0] rfl ?_
    exact ke0 _ (Option.some.inj hf).symm
  · have hf := xo_neg c_ hf
    refine xr_aload_n (pc := 73) 0 dX6_on_73 rfl rfl ?_
    refine xt_getA (pc := 74) 62 (by decide) q1808 rfl rfl rfl dX6_on_74 ?_
    refine xr_iconst (pc := 77) dX6_on_77 xci_2 ?_
    refine xr_iload_n (pc := 78) 1 dX6_on_78 rfl rfl ?_
    refine xr_iadd (pc := 79) dX6_on_79 ?_
    refine xr_aload_n (pc := 80) 0 dX6_on_80 rfl rfl ?_
    refine xt_getA (pc := 81) 0 (by decide) q1746 rfl rfl rfl dX6_on_81 ?_
    refine xr_iconst (pc := 84) dX6_on_84 xci_5 ?_
    refine xr_iload_n (pc := 85) 1 dX6_on_85 rfl rfl ?_
    refine xr_iadd (pc := 86) dX6_on_86 ?_
    obtain ⟨hi_, hf⟩ := xo_if hf
    refine xt_iald (pc := 87) 0 rfl rfl hi_ dX6_on_87 ?_
    obtain ⟨hi_, hf⟩ := xo_if hf
    refine xt_iast (pc := 88) 62 rfl rfl hi_ dX6_on_88 ?_
    refine xr_iinc (pc := 89) (loc' := [(2, .int (x2 + 1)), (0, .ref m)]) 1 dX6_on_89 rfl xci_1 (by decide) rfl ?_
    refine xr_goto (pc := 92) 65 dX6_on_92 (by decide) ?_
    refine xV_sub [1, 0] rfl ?_
    exact kc _ (Option.some.inj hf).symm
def Bt_on_113 (x3 : Int32) (x2 : Int32) (x4 : Int32) (τ : TS) : Option ((Int32 × Int32 × TS) ⊕ ((Int32 × TS))) :=
  xbd (f_t_rowsMany τ) fun r8 τ8 =>
  if r8 ≤ x4 then
  some (.inr (x2, τ8))
  else
  if xin x2 1600 = true then
  if xin ((12 + (8 * x3)) + x4) 303 = true then
  if xin (x2 + 1) 1600 = true then
  if xin ((92 + (8 * x3)) + x4) 303 = true then
  some (.inl (x2 + 2, x4 + 1, sA (sA τ8 62 ((12 + (8 * x3)) + x4).toNatClampNeg (tA τ8 0 x2.toNatClampNeg)) 62 ((92 + (8 * x3)) + x4).toNatClampNeg (tA (sA τ8 62 ((12 + (8 * x3)) + x4).toNatClampNeg (tA τ8 0 x2.toNatClampNeg)) 0 (x2 + 1).toNatClampNeg)))
  else none
  else none
  else none
  else none
theorem ok_Bt_on_113 {D : TD} {m : Nat} {K : xK} {Z : Option Value × TS} {x3 : Int32} {x2 : Int32} {x4 : Int32} {τ : TS} {o_ : ((Int32 × Int32 × TS) ⊕ ((Int32 × TS)))} (hf : Bt_on_113 x3 x2 x4 τ = some o_) (kc : ∀ s_ : Int32 × Int32 × TS, o_ = .inl s_ → xV (wT D m) K mX6_on (xQ (wT D m) K Z) s_.2.2 113 [(0, .ref m), (2, .int s_.1), (3, .int x3), (4, .int s_.2.1)] []) (ke0 : ∀ e_ : Int32 × TS, o_ = .inr e_ → xV (wT D m) K mX6_on (xQ (wT D m) K Z) e_.2 175 [(0, .ref m), (2, .int e_.1), (3, .int x3)] []) : xV (wT D m) K mX6_on (xQ (wT D m) K Z) τ 113 [(0, .ref m), (2, .int x2), (3, .int x3), (4, .int x4)] [] := by
  unfold Bt_on_113 at hf
  refine xr_iload (pc := 113) 3 dX6_on_113 rfl ?_
  refine xr_aload_n (pc := 115) 0 dX6_on_115 rfl rfl ?_
  obtain ⟨r8, τ8, hτ8, hf⟩ := xo_bd hf
  refine call_f_t_rowsMany (pc := 116) hτ8 rfl (Nat.le_of_ble_eq_true rfl) (Nat.le_of_ble_eq_true rfl) (Nat.le_of_ble_eq_true rfl) dX6_on_116 ?_
  refine xr_icmp_ge (pc := 119) 175 dX6_on_119 (by decide) (fun c_ => ?_) (fun c_ => ?_)
  · have hf := xo_pos c_ hf
    refine xV_sub [0, 1, 2] rfl ?_
    exact ke0 _ (Option.some.inj hf).symm
  · have hf := xo_neg c_ hf
    refine xr_aload_n (pc := 122) 0 dX6_on_122 rfl rfl ?_
    refine xt_getA (pc := 123) 62 (by decide) q1808 rfl rfl rfl dX6_on_123 ?_
    refine xr_bipush (pc := 126) dX6_on_126 xcb_12 ?_
    refine xr_bipush (pc := 128) dX6_on_128 xcb_8 ?_
    refine xr_iload_n (pc := 130) 2 dX6_on_130 rfl rfl ?_
    refine xr_imul (pc := 131) dX6_on_131 ?_
    refine xr_iadd (pc := 132) dX6_on_132 ?_
    refine xr_iload (pc := 133) 3 dX6_on_133 rfl ?_
    refine xr_iadd (pc := 135) dX6_on_135 ?_
    refine xr_aload_n (pc := 136) 0 dX6_on_136 rfl rfl ?_
    refine xt_getA (pc := 137) 0 (by decide) q1746 rfl rfl rfl dX6_on_137 ?_
    refine xr_iload_n (pc := 140) 1 dX6_on_140 rfl rfl ?_
    obtain ⟨hi_, hf⟩ := xo_if hf
    refine xt_iald (pc := 141) 0 rfl rfl hi_ dX6_on_141 ?_
    obtain ⟨hi_, hf⟩ := xo_if hf
    refine xt_iast (pc := 142) 62 rfl rfl hi_ dX6_on_142 ?_
    refine xr_aload_n (pc := 143) 0 dX6_on_143 rfl rfl ?_
    refine xt_getA (pc := 144) 62 (by decide) q1808 rfl rfl rfl dX6_on_144 ?_
    refine xr_bipush (pc := 147) dX6_on_147 xcb_92 ?_
    refine xr_bipush (pc := 149) dX6_on_149 xcb_8 ?_
    refine xr_iload_n (pc := 151) 2 dX6_on_151 rfl rfl ?_
    refine xr_imul (pc := 152) dX6_on_152 ?_
    refine xr_iadd (pc := 153) dX6_on_153 ?_
    refine xr_iload (pc := 154) 3 dX6_on_154 rfl ?_
    refine xr_iadd (pc := 156) dX6_on_156 ?_
    refine xr_aload_n (pc := 157) 0 dX6_on_157 rfl rfl ?_
    refine xt_getA (pc := 158) 0 (by decide) q1746 rfl rfl rfl dX6_on_158 ?_
    refine xr_iload_n (pc := 161) 1 dX6_on_161 rfl rfl ?_
    refine xr_iconst (pc := 162) dX6_on_162 xci_1 ?_
    refine xr_iadd (pc := 163) dX6_on_163 ?_
    obtain ⟨hi_, hf⟩ := xo_if hf
    refine xt_iald (pc := 164) 0 rfl rfl hi_ dX6_on_164 ?_
    obtain ⟨hi_, hf⟩ := xo_if hf
    refine xt_iast (pc := 165) 62 rfl rfl hi_ dX6_on_165 ?_
    refine xr_iinc (pc := 166) (loc' := [(2, .int (x2 + 2)), (0, .ref m), (3, .int x3), (4, .int x4)]) 1 dX6_on_166 rfl xci_2 (by decide) rfl ?_
    refine xr_iinc (pc := 169) (loc' := [(4, .int (x4 + 1)), (2, .int (x2 + 2)), (0, .ref m), (3, .int x3)]) 3 dX6_on_169 rfl xci_1 (by decide) rfl ?_
    refine xr_goto (pc := 172) 113 dX6_on_172 (by decide) ?_
    refine xV_sub [2, 1, 3, 0] rfl ?_
    exact kc _ (Option.some.inj hf).symm
def Bt_on_102 (x2 : Int32) (x3 : Int32) (τ : TS) : Option ((Int32 × Int32 × TS) ⊕ ((Int32 × TS))) :=
  xbd (f_t_columnMany τ) fun r7 τ7 =>
  if r7 ≤ x3 then
  some (.inr (x2, τ7))
  else
  (itr (fun s_ : Int32 × Int32 × TS => Bt_on_113 x3 s_.1 s_.2.1 s_.2.2) 4096 (x2, 0, τ7)).bind fun b9 =>
  some (.inl (b9.1, x3 + 1, b9.2))
theorem ok_Bt_on_102 {D : TD} {m : Nat} {K : xK} {Z : Option Value × TS} {x2 : Int32} {x3 : Int32} {τ : TS} {o_ : ((Int32 × Int32 × TS) ⊕ ((Int32 × TS)))} (hf : Bt_on_102 x2 x3 τ = some o_) (kc : ∀ s_ : Int32 × Int32 × TS, o_ = .inl s_ → xV (wT D m) K mX6_on (xQ (wT D m) K Z) s_.2.2 102 [(0, .ref m), (2, .int s_.1), (3, .int s_.2.1)] []) (ke0 : ∀ e_ : Int32 × TS, o_ = .inr e_ → xV (wT D m) K mX6_on (xQ (wT D m) K Z) e_.2 181 [(0, .ref m), (2, .int e_.1)] []) : xV (wT D m) K mX6_on (xQ (wT D m) K Z) τ 102 [(0, .ref m), (2, .int x2), (3, .int x3)] [] := by
  unfold Bt_on_102 at hf
  refine xr_iload_n (pc := 102) 2 dX6_on_102 rfl rfl ?_
  refine xr_aload_n (pc := 103) 0 dX6_on_103 rfl rfl ?_
  obtain ⟨r7, τ7, hτ7, hf⟩ := xo_bd hf
  refine call_f_t_columnMany (pc := 104) hτ7 rfl (Nat.le_of_ble_eq_true rfl) (Nat.le_of_ble_eq_true rfl) (Nat.le_of_ble_eq_true rfl) dX6_on_104 ?_
  refine xr_icmp_ge (pc := 107) 181 dX6_on_107 (by decide) (fun c_ => ?_) (fun c_ => ?_)
  · have hf := xo_pos c_ hf
    refine xV_sub [0, 1] rfl ?_
    exact ke0 _ (Option.some.inj hf).symm
  · have hf := xo_neg c_ hf
    refine xr_iconst (pc := 110) dX6_on_110 xci_0 ?_
    refine xr_istore (pc := 111) (loc' := [(4, .int 0), (0, .ref m), (2, .int x2), (3, .int x3)]) dX6_on_111 (by decide) rfl ?_
    refine xV_sub [1, 2, 3, 0] rfl ?_
    obtain ⟨b9, hb9, hf⟩ := xo_bind hf
    refine itr_rule (P := fun s_ : Int32 × Int32 × TS => xV (wT D m) K mX6_on (xQ (wT D m) K Z) s_.2.2 113 [(0, .ref m), (2, .int s_.1), (3, .int x3), (4, .int s_.2.1)] []) (fun s_ o_ hB_ hc_ he_ => ok_Bt_on_113 hB_ hc_ (fun e_ h_ => ?_)) 4096 _ hb9
    · have e9_ := he_ _ h_
      rw [e9_]
      refine xr_iinc (pc := 175) (loc' := [(3, .int (x3 + 1)), (0, .ref m), (2, .int b9.1)]) 2 dX6_on_175 rfl xci_1 (by decide) rfl ?_
      refine xr_goto (pc := 178) 102 dX6_on_178 (by decide) ?_
      refine xV_sub [1, 2, 0] rfl ?_
      exact kc _ (Option.some.inj hf).symm
def Bt_on_183 (x2 : Int32) (x3 : Int32) (τ : TS) : Option ((Int32 × Int32 × TS) ⊕ ((TS))) :=
  xbd (f_t_lordMany τ) fun r11 τ11 =>
  if r11 ≤ x3 then
  some (.inr τ11)
  else
  if xin x2 1600 = true then
  if xin (172 + (2 * x3)) 303 = true then
  xbd (f_t_twoAt (x2 + 1) (sA τ11 62 (172 + (2 * x3)).toNatClampNeg (tA τ11 0 x2.toNatClampNeg))) fun r12 τ12 =>
  if xin ((172 + (2 * x3)) + 1) 303 = true then
  some (.inl (x2 + 3, x3 + 1, sA τ12 62 ((172 + (2 * x3)) + 1).toNatClampNeg r12))
  else none
  else none
  else none
theorem ok_Bt_on_183 {D : TD} {m : Nat} {K : xK} {Z : Option Value × TS} {x2 : Int32} {x3 : Int32} {τ : TS} {o_ : ((Int32 × Int32 × TS) ⊕ ((TS)))} (hf : Bt_on_183 x2 x3 τ = some o_) (kc : ∀ s_ : Int32 × Int32 × TS, o_ = .inl s_ → xV (wT D m) K mX6_on (xQ (wT D m) K Z) s_.2.2 183 [(0, .ref m), (2, .int s_.1), (3, .int s_.2.1)] []) (ke0 : ∀ e_ : TS, o_ = .inr e_ → xV (wT D m) K mX6_on (xQ (wT D m) K Z) e_ 239 [(0, .ref m)] []) : xV (wT D m) K mX6_on (xQ (wT D m) K Z) τ 183 [(0, .ref m), (2, .int x2), (3, .int x3)] [] := by
  unfold Bt_on_183 at hf
  refine xr_iload_n (pc := 183) 2 dX6_on_183 rfl rfl ?_
  refine xr_aload_n (pc := 184) 0 dX6_on_184 rfl rfl ?_
  obtain ⟨r11, τ11, hτ11, hf⟩ := xo_bd hf
  refine call_f_t_lordMany (pc := 185) hτ11 rfl (Nat.le_of_ble_eq_true rfl) (Nat.le_of_ble_eq_true rfl) (Nat.le_of_ble_eq_true rfl) dX6_on_185 ?_
  refine xr_icmp_ge (pc := 188) 239 dX6_on_188 (by decide) (fun c_ => ?_) (fun c_ => ?_)
  · have hf := xo_pos c_ hf
    refine xV_sub [0] rfl ?_
    exact ke0 _ (Option.some.inj hf).symm
  · have hf := xo_neg c_ hf
    refine xr_aload_n (pc := 191) 0 dX6_on_191 rfl rfl ?_
    refine xt_getA (pc := 192) 62 (by decide) q1808 rfl rfl rfl dX6_on_192 ?_
    refine xr_sipush (pc := 195) dX6_on_195 xcs_172 ?_
    refine xr_iconst (pc := 198) dX6_on_198 xci_2 ?_
    refine xr_iload_n (pc := 199) 2 dX6_on_199 rfl rfl ?_
    refine xr_imul (pc := 200) dX6_on_200 ?_
    refine xr_iadd (pc := 201) dX6_on_201 ?_
    refine xr_aload_n (pc := 202) 0 dX6_on_202 rfl rfl ?_
    refine xt_getA (pc := 203) 0 (by decide) q1746 rfl rfl rfl dX6_on_203 ?_
    refine xr_iload_n (pc := 206) 1 dX6_on_206 rfl rfl ?_
    obtain ⟨hi_, hf⟩ := xo_if hf
    refine xt_iald (pc := 207) 0 rfl rfl hi_ dX6_on_207 ?_
    obtain ⟨hi_, hf⟩ := xo_if hf
    refine xt_iast (pc := 208) 62 rfl rfl hi_ dX6_on_208 ?_
    refine xr_aload_n (pc := 209) 0 dX6_on_209 rfl rfl ?_
    refine xt_getA (pc := 210) 62 (by decide) q1808 rfl rfl rfl dX6_on_210 ?_
    refine xr_sipush (pc := 213) dX6_on_213 xcs_172 ?_
    refine xr_iconst (pc := 216) dX6_on_216 xci_2 ?_
    refine xr_iload_n (pc := 217) 2 dX6_on_217 rfl rfl ?_
    refine xr_imul (pc := 218) dX6_on_218 ?_
    refine xr_iadd (pc := 219) dX6_on_219 ?_
    refine xr_iconst (pc := 220) dX6_on_220 xci_1 ?_
    refine xr_iadd (pc := 221) dX6_on_221 ?_
    refine xr_aload_n (pc := 222) 0 dX6_on_222 rfl rfl ?_
    refine xr_iload_n (pc := 223) 1 dX6_on_223 rfl rfl ?_
    refine xr_iconst (pc := 224) dX6_on_224 xci_1 ?_
    refine xr_iadd (pc := 225) dX6_on_225 ?_
    obtain ⟨r12, τ12, hτ12, hf⟩ := xo_bd hf
    refine call_f_t_twoAt (pc := 226) hτ12 rfl (Nat.le_of_ble_eq_true rfl) (Nat.le_of_ble_eq_true rfl) (Nat.le_of_ble_eq_true rfl) dX6_on_226 ?_
    obtain ⟨hi_, hf⟩ := xo_if hf
    refine xt_iast (pc := 229) 62 rfl rfl hi_ dX6_on_229 ?_
    refine xr_iinc (pc := 230) (loc' := [(2, .int (x2 + 3)), (0, .ref m), (3, .int x3)]) 1 dX6_on_230 rfl xci_3 (by decide) rfl ?_
    refine xr_iinc (pc := 233) (loc' := [(3, .int (x3 + 1)), (2, .int (x2 + 3)), (0, .ref m)]) 2 dX6_on_233 rfl xci_1 (by decide) rfl ?_
    refine xr_goto (pc := 236) 183 dX6_on_236 (by decide) ?_
    refine xV_sub [2, 1, 0] rfl ?_
    exact kc _ (Option.some.inj hf).symm
def f_t_on (τ : TS) : Option (Int32 × TS) :=
  xbd (f_t_isImage (tI τ 1) (sI τ 1 0)) fun r1 τ1 =>
  if r1 = 0 then
  if xin 5 6 = true then
  if xin 5 6 = true then
  some ((0, sA τ1 9 (5 : Int32).toNatClampNeg ((tA τ1 9 (5 : Int32).toNatClampNeg) + 1)))
  else none
  else none
  else
  xbd (f_t_twoAt 0 τ1) fun r2 τ2 =>
  if xin 0 303 = true then
  if xin 2 1600 = true then
  xbd (f_t_twoAt 3 (sA τ2 62 (0 : Int32).toNatClampNeg r2)) fun r3 τ3 =>
  if xin 1 303 = true then
  (itr (fun s_ : Int32 × TS => Bt_on_65 s_.1 s_.2) 4096 (0, sA τ3 62 (1 : Int32).toNatClampNeg ((65536 * (tA (sA τ2 62 (0 : Int32).toNatClampNeg r2) 0 (2 : Int32).toNatClampNeg)) + r3))).bind fun b5 =>
  xbd (f_t_cellsFrom b5) fun r6 τ6 =>
  (itr (fun s_ : Int32 × Int32 × TS => Bt_on_102 s_.1 s_.2.1 s_.2.2) 4096 (r6, 0, τ6)).bind fun b10 =>
  (itr (fun s_ : Int32 × Int32 × TS => Bt_on_183 s_.1 s_.2.1 s_.2.2) 4096 (b10.1, 0, b10.2)).bind fun b13 =>
  if xin 182 303 = true then
  some ((1, sI (sA b13 62 (182 : Int32).toNatClampNeg 0) 85 0))
  else none
  else none
  else none
  else none
theorem ok_f_t_on {D : TD} {m : Nat} {K : xK} {Z : Option Value × TS} {τ : TS} {o_ : (Int32 × TS)} (hf : f_t_on τ = some o_) (kr : ∀ r_ : (Int32 × TS), o_ = r_ → Z = (some (.int r_.1), r_.2)) : xV (wT D m) K mX6_on (xQ (wT D m) K Z) τ 0 [(0, .ref m)] [] := by
  unfold f_t_on at hf
  refine xr_aload_n (pc := 0) 0 dX6_on_0 rfl rfl ?_
  refine xt_getI (pc := 1) 1 (by decide) q1747 rfl rfl rfl dX6_on_1 ?_
  refine xr_istore_n (pc := 4) (loc' := [(1, .int (tI τ 1)), (0, .ref m)]) dX6_on_4 rfl (by decide) rfl ?_
  refine xr_aload_n (pc := 5) 1 dX6_on_5 rfl rfl ?_
  refine xr_iconst (pc := 6) dX6_on_6 xci_0 ?_
  refine xt_putI (pc := 7) 1 (by decide) q1747 rfl rfl rfl (by decide +kernel) rfl dX6_on_7 ?_
  refine xr_aload_n (pc := 10) 1 dX6_on_10 rfl rfl ?_
  refine xr_iload_n (pc := 11) 0 dX6_on_11 rfl rfl ?_
  obtain ⟨r1, τ1, hτ1, hf⟩ := xo_bd hf
  refine call_f_t_isImage (pc := 12) hτ1 rfl (Nat.le_of_ble_eq_true rfl) (Nat.le_of_ble_eq_true rfl) (Nat.le_of_ble_eq_true rfl) dX6_on_12 ?_
  refine xr_if_ne (pc := 15) 30 dX6_on_15 (by decide) (fun c_ => ?_) (fun c_ => ?_)
  · have hf := xo_pos c_ hf
    refine xr_aload_n (pc := 18) 1 dX6_on_18 rfl rfl ?_
    refine xt_getA (pc := 19) 9 (by decide) q1755 rfl rfl rfl dX6_on_19 ?_
    refine xr_iconst (pc := 22) dX6_on_22 xci_5 ?_
    refine xr_dup2_11 (pc := 23) dX6_on_23 rfl rfl ?_
    obtain ⟨hi_, hf⟩ := xo_if hf
    refine xt_iald (pc := 24) 9 rfl rfl hi_ dX6_on_24 ?_
    refine xr_iconst (pc := 25) dX6_on_25 xci_1 ?_
    refine xr_iadd (pc := 26) dX6_on_26 ?_
    obtain ⟨hi_, hf⟩ := xo_if hf
    refine xt_iast (pc := 27) 9 rfl rfl hi_ dX6_on_27 ?_
    refine xr_iconst (pc := 28) dX6_on_28 xci_0 ?_
    rw [kr _ (Option.some.inj hf).symm]
    exact xr_zret (pc := 29) dX6_on_29 rfl xz_0
  · have hf := xo_neg c_ hf
    refine xr_aload_n (pc := 30) 1 dX6_on_30 rfl rfl ?_
    refine xt_getA (pc := 31) 62 (by decide) q1808 rfl rfl rfl dX6_on_31 ?_
    refine xr_iconst (pc := 34) dX6_on_34 xci_0 ?_
    refine xr_aload_n (pc := 35) 1 dX6_on_35 rfl rfl ?_
    refine xr_iconst (pc := 36) dX6_on_36 xci_0 ?_
    obtain ⟨r2, τ2, hτ2, hf⟩ := xo_bd hf
    refine call_f_t_twoAt (pc := 37) hτ2 rfl (Nat.le_of_ble_eq_true rfl) (Nat.le_of_ble_eq_true rfl) (Nat.le_of_ble_eq_true rfl) dX6_on_37 ?_
    obtain ⟨hi_, hf⟩ := xo_if hf
    refine xt_iast (pc := 40) 62 rfl rfl hi_ dX6_on_40 ?_
    refine xr_aload_n (pc := 41) 1 dX6_on_41 rfl rfl ?_
    refine xt_getA (pc := 42) 62 (by decide) q1808 rfl rfl rfl dX6_on_42 ?_
    refine xr_iconst (pc := 45) dX6_on_45 xci_1 ?_
    refine xr_ldcw (pc := 46) q2715 dX6_on_46 ?_
    refine xr_aload_n (pc := 49) 1 dX6_on_49 rfl rfl ?_
    refine xt_getA (pc := 50) 0 (by decide) q1746 rfl rfl rfl dX6_on_50 ?_
    refine xr_iconst (pc := 53) dX6_on_53 xci_2 ?_
    obtain ⟨hi_, hf⟩ := xo_if hf
    refine xt_iald (pc := 54) 0 rfl rfl hi_ dX6_on_54 ?_
    refine xr_imul (pc := 55) dX6_on_55 ?_
    refine xr_aload_n (pc := 56) 1 dX6_on_56 rfl rfl ?_
    refine xr_iconst (pc := 57) dX6_on_57 xci_3 ?_
    obtain ⟨r3, τ3, hτ3, hf⟩ := xo_bd hf
    refine call_f_t_twoAt (pc := 58) hτ3 rfl (Nat.le_of_ble_eq_true rfl) (Nat.le_of_ble_eq_true rfl) (Nat.le_of_ble_eq_true rfl) dX6_on_58 ?_
    refine xr_iadd (pc := 61) dX6_on_61 ?_
    obtain ⟨hi_, hf⟩ := xo_if hf
    refine xt_iast (pc := 62) 62 rfl rfl hi_ dX6_on_62 ?_
    refine xr_iconst (pc := 63) dX6_on_63 xci_0 ?_
    refine xr_istore_n (pc := 64) (loc' := [(2, .int 0), (1, .int (tI τ 1)), (0, .ref m)]) dX6_on_64 rfl (by decide) rfl ?_
    refine xV_sub [2, 0] rfl ?_
    obtain ⟨b5, hb5, hf⟩ := xo_bind hf
    refine itr_rule (P := fun s_ : Int32 × TS => xV (wT D m) K mX6_on (xQ (wT D m) K Z) s_.2 65 [(0, .ref m), (2, .int s_.1)] []) (fun s_ o_ hB_ hc_ he_ => ok_Bt_on_65 hB_ hc_ (fun e_ h_ => ?_)) 4096 _ hb5
    · have e9_ := he_ _ h_
      rw [e9_]
      refine xr_aload_n (pc := 95) 0 dX6_on_95 rfl rfl ?_
      obtain ⟨r6, τ6, hτ6, hf⟩ := xo_bd hf
      refine call_f_t_cellsFrom (pc := 96) hτ6 rfl (Nat.le_of_ble_eq_true rfl) (Nat.le_of_ble_eq_true rfl) (Nat.le_of_ble_eq_true rfl) dX6_on_96 ?_
      refine xr_istore_n (pc := 99) (loc' := [(2, .int r6), (0, .ref m)]) dX6_on_99 rfl (by decide) rfl ?_
      refine xr_iconst (pc := 100) dX6_on_100 xci_0 ?_
      refine xr_istore_n (pc := 101) (loc' := [(3, .int 0), (2, .int r6), (0, .ref m)]) dX6_on_101 rfl (by decide) rfl ?_
      refine xV_sub [2, 1, 0] rfl ?_
      obtain ⟨b10, hb10, hf⟩ := xo_bind hf
      refine itr_rule (P := fun s_ : Int32 × Int32 × TS => xV (wT D m) K mX6_on (xQ (wT D m) K Z) s_.2.2 102 [(0, .ref m), (2, .int s_.1), (3, .int s_.2.1)] []) (fun s_ o_ hB_ hc_ he_ => ok_Bt_on_102 hB_ hc_ (fun e_ h_ => ?_)) 4096 _ hb10
      · have e9_ := he_ _ h_
        rw [e9_]
        refine xr_iconst (pc := 181) dX6_on_181 xci_0 ?_
        refine xr_istore_n (pc := 182) (loc' := [(3, .int 0), (0, .ref m), (2, .int b10.1)]) dX6_on_182 rfl (by decide) rfl ?_
        refine xV_sub [1, 2, 0] rfl ?_
        obtain ⟨b13, hb13, hf⟩ := xo_bind hf
        refine itr_rule (P := fun s_ : Int32 × Int32 × TS => xV (wT D m) K mX6_on (xQ (wT D m) K Z) s_.2.2 183 [(0, .ref m), (2, .int s_.1), (3, .int s_.2.1)] []) (fun s_ o_ hB_ hc_ he_ => ok_Bt_on_183 hB_ hc_ (fun e_ h_ => ?_)) 4096 _ hb13
        · have e9_ := he_ _ h_
          rw [e9_]
          refine xr_aload_n (pc := 239) 0 dX6_on_239 rfl rfl ?_
          refine xt_getA (pc := 240) 62 (by decide) q1808 rfl rfl rfl dX6_on_240 ?_
          refine xr_sipush (pc := 243) dX6_on_243 xcs_182 ?_
          refine xr_iconst (pc := 246) dX6_on_246 xci_0 ?_
          obtain ⟨hi_, hf⟩ := xo_if hf
          refine xt_iast (pc := 247) 62 rfl rfl hi_ dX6_on_247 ?_
          refine xr_aload_n (pc := 248) 0 dX6_on_248 rfl rfl ?_
          refine xr_iconst (pc := 249) dX6_on_249 xci_0 ?_
          refine xt_putI (pc := 250) 85 (by decide) q1831 rfl rfl rfl (by decide +kernel) rfl dX6_on_250 ?_
          refine xr_iconst (pc := 253) dX6_on_253 xci_1 ?_
          rw [kr _ (Option.some.inj hf).symm]
          exact xr_zret (pc := 254) dX6_on_254 rfl xz_1
theorem met_f_t_on (l : Launch) {D : TD} {m : Nat} {τ : TS} {o_ : (Int32 × TS)} (hf : f_t_on τ = some o_) : xMet (wT D m) l yX6_on (ws_ yX6_on cX6_on 5 (some .boolean)) 4 240 0 0 [.ref m] τ (some (.int o_.1), o_.2) :=
  xMet_of (by decide) (Nat.le_of_ble_eq_true rfl) KT_moved (fun _ _ => trivial) (fun K _ _ _ => ok_f_t_on hf (fun _ h => by rw [h]))
abbrev mX6_status : xM := (cX6_status, 2, RX6, 1, 60, (some .int), "status")
def f_t_status (x1 : Int32) (τ : TS) : Option (Int32 × TS) :=
  xbd (f_t_isIn x1.toInt64 0 5 τ) fun r1 τ1 =>
  if r1 = 0 then
  some (((-1), τ1))
  else
  if xin x1 6 = true then
  some ((tA τ1 9 x1.toNatClampNeg, τ1))
  else none
theorem ok_f_t_status {D : TD} {m : Nat} {K : xK} {Z : Option Value × TS} {x1 : Int32} {τ : TS} {o_ : (Int32 × TS)} (hf : f_t_status x1 τ = some o_) (kr : ∀ r_ : (Int32 × TS), o_ = r_ → Z = (some (.int r_.1), r_.2)) : xV (wT D m) K mX6_status (xQ (wT D m) K Z) τ 0 [(0, .ref m), (1, .int x1)] [] := by
  unfold f_t_status at hf
  refine xr_iload_n (pc := 0) 1 dX6_status_0 rfl rfl ?_
  refine xr_i2l (pc := 1) dX6_status_1 ?_
  refine xr_lconst (pc := 2) dX6_status_2 (by decide : _ = (0 : Int64)) ?_
  refine xr_ldc2 (pc := 3) q2441 dX6_status_3 ?_
  obtain ⟨r1, τ1, hτ1, hf⟩ := xo_bd hf
  refine call_f_t_isIn (pc := 6) hτ1 rfl (Nat.le_of_ble_eq_true rfl) (Nat.le_of_ble_eq_true rfl) (Nat.le_of_ble_eq_true rfl) dX6_status_6 ?_
  refine xr_if_eq (pc := 9) 21 dX6_status_9 (by decide) (fun c_ => ?_) (fun c_ => ?_)
  · have hf := xo_pos c_ hf
    refine xr_iconst (pc := 21) dX6_status_21 xci_m1 ?_
    rw [kr _ (Option.some.inj hf).symm]
    exact xr_iret (pc := 22) dX6_status_22 rfl
  · have hf := xo_neg c_ hf
    refine xr_aload_n (pc := 12) 0 dX6_status_12 rfl rfl ?_
    refine xt_getA (pc := 13) 9 (by decide) q1755 rfl rfl rfl dX6_status_13 ?_
    refine xr_iload_n (pc := 16) 1 dX6_status_16 rfl rfl ?_
    obtain ⟨hi_, hf⟩ := xo_if hf
    refine xt_iald (pc := 17) 9 rfl rfl hi_ dX6_status_17 ?_
    refine xr_goto (pc := 18) 22 dX6_status_18 (by decide) ?_
    rw [kr _ (Option.some.inj hf).symm]
    exact xr_iret (pc := 22) dX6_status_22 rfl
theorem met_f_t_status (l : Launch) {D : TD} {m : Nat} {x1 : Int32} {τ : TS} {o_ : (Int32 × TS)} (hf : f_t_status x1 τ = some o_) : xMet (wT D m) l yX6_status (ws_ yX6_status cX6_status 2 (some .int)) 1 60 0 0 [.ref m, .int x1] τ (some (.int o_.1), o_.2) :=
  xMet_of (by decide) (Nat.le_of_ble_eq_true rfl) KT_moved (fun _ _ => trivial) (fun K _ _ _ => ok_f_t_status hf (fun _ h => by rw [h]))
