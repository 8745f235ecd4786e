set_option maxRecDepth 100000
theorem hd_f_x_X2_name : yX2_name.cls ≠ "java/lang/invoke/MethodHandle" ∧ yX2_name.cls ≠ "java/lang/invoke/VarHandle" ∧ (parseMethodDescriptor yX2_name.desc).map (fun d => d.parameters.length) = some 0 := by decide +kernel
theorem call_f_x_X2_name_X2_182_r {D : CD} {P : CP} {K : xK} {M : xM} {Q : State → Prop} {τ τ1 : CS} {x0 : Nat} {pc : Nat} {loc : List (Nat × Value)} {st : List Value} {r : Nat} (hf : f_x_X2_name x0 τ = some (.inl r, τ1)) (hr : gK τ.1 x0 = 3) (ho : M.2.2.1 = RX2) (hfr : 10 ≤ M.2.2.2.1) (hlo : 561 ≤ M.2.2.2.2.1) (hcat : (st.map fun v => v.category).sum ≤ 8) (d : decode M.1 pc = .ok (.invokevirtual 182, 3)) (k : xV (wC D P) K M Q τ1 (pc + 3) loc (.ref r :: st)) : xV (wC D P) K M Q τ pc loc (.ref x0 :: st) :=
  yc_callVX (g := τ.1) (c := τ.2) (Z := (.inl (some (.ref r)), τ1)) (As := []) (rest := st) (met_f_x_X2_name K.2.1 hf) (lw_V q813 q815 qs18 q179 q816) ⟨rfl, hd_f_x_X2_name⟩ ho hfr hlo rfl hr (by decide) (by decide) rfl rfl hcat d (yx_ret (v := some (.ref r)) k) yx_noT
theorem call_f_x_X2_name_X2_182_t {D : CD} {P : CP} {K : xK} {M : xM} {Q : State → Prop} {τ τ1 : CS} {x0 : Nat} {pc : Nat} {loc : List (Nat × Value)} {st : List Value} {q : Nat} (hf : f_x_X2_name x0 τ = some (.inr q, τ1)) (hr : gK τ.1 x0 = 3) (ho : M.2.2.1 = RX2) (hfr : 10 ≤ M.2.2.2.1) (hlo : 561 ≤ M.2.2.2.2.1) (hcat : (st.map fun v => v.category).sum ≤ 8) (d : decode M.1 pc = .ok (.invokevirtual 182, 3)) (k : xT (wC D P) K M Q τ1 pc loc q) : xV (wC D P) K M Q τ pc loc (.ref x0 :: st) :=
  yc_callVX (g := τ.1) (c := τ.2) (Z := (.inr q, τ1)) (As := []) (rest := st) (met_f_x_X2_name K.2.1 hf) (lw_V q813 q815 qs18 q179 q816) ⟨rfl, hd_f_x_X2_name⟩ ho hfr hlo rfl hr (by decide) (by decide) rfl rfl hcat d yx_noR (yx_thr k)
theorem hd_f_c_X1_isNamed : yX1_isNamed.cls ≠ "java/lang/invoke/MethodHandle" ∧ yX1_isNamed.cls ≠ "java/lang/invoke/VarHandle" ∧ (parseMethodDescriptor yX1_isNamed.desc).map (fun d => d.parameters.length) = some 1 := by decide +kernel
theorem call_f_c_X1_isNamed_X2_185 {D : CD} {P : CP} {K : xK} {M : xM} {Q : State → Prop} {g : CG} {c : CC} {x0 : Nat} {x1 : Nat} {pc : Nat} {loc : List (Nat × Value)} {st : List Value} {r : Int32} {c1 : CC} (hf : f_c_X1_isNamed g x0 x1 c = some (r, c1)) (hr : gK g x0 = 2) (ho : M.2.2.1 = RX2) (hfr : 4 ≤ M.2.2.2.1) (hlo : 202 ≤ M.2.2.2.2.1) (hcat : (st.map fun v => v.category).sum ≤ 8) (d : decode M.1 pc = .ok (.invokevirtual 185, 3)) (k : xV (wC D P) K M Q (g, c1) (pc + 3) loc (.int r :: st)) : xV (wC D P) K M Q (g, c) pc loc (.ref x1 :: .ref x0 :: st) :=
  yc_callV (As := [.ref x1]) (rest := st) (met_f_c_X1_isNamed K.2.1 hf) (lw_V q831 q832 q833 q175 q834) ⟨rfl, hd_f_c_X1_isNamed⟩ ho hfr hlo rfl hr (by decide) (by decide) rfl rfl hcat d k
theorem hd_f_x_X2_number_2 : yX2_number_2.cls ≠ "java/lang/invoke/MethodHandle" ∧ yX2_number_2.cls ≠ "java/lang/invoke/VarHandle" ∧ (parseMethodDescriptor yX2_number_2.desc).map (fun d => d.parameters.length) = some 3 := by decide +kernel
theorem call_f_x_X2_number_2_X2_120_r {D : CD} {P : CP} {K : xK} {M : xM} {Q : State → Prop} {τ τ1 : CS} {x0 : Nat} {x1 : Nat} {x2 : Int32} {x3 : Int32} {pc : Nat} {loc : List (Nat × Value)} {st : List Value} {r : Int32} (hf : f_x_X2_number_2 x0 x1 x2 x3 τ = some (.inl r, τ1)) (hr : gK τ.1 x0 = 3) (ho : M.2.2.1 = RX2) (hfr : 11 ≤ M.2.2.2.1) (hlo : 623 ≤ M.2.2.2.2.1) (hcat : (st.map fun v => v.category).sum ≤ 8) (d : decode M.1 pc = .ok (.invokevirtual 120, 3)) (k : xV (wC D P) K M Q τ1 (pc + 3) loc (.int r :: st)) : xV (wC D P) K M Q τ pc loc (.int x3 :: .int x2 :: .ref x1 :: .ref x0 :: st) :=
  yc_callVX (g := τ.1) (c := τ.2) (Z := (.inl (some (.int r)), τ1)) (As := [.ref x1, .int x2, .int x3]) (rest := st) (met_f_x_X2_number_2 K.2.1 hf) (lw_V q717 q719 qs11 q179 q720) ⟨rfl, hd_f_x_X2_number_2⟩ ho hfr hlo rfl hr (by decide) (by decide) rfl rfl hcat d (yx_ret (v := some (.int r)) k) yx_noT
theorem call_f_x_X2_number_2_X2_120_t {D : CD} {P : CP} {K : xK} {M : xM} {Q : State → Prop} {τ τ1 : CS} {x0 : Nat} {x1 : Nat} {x2 : Int32} {x3 : Int32} {pc : Nat} {loc : List (Nat × Value)} {st : List Value} {q : Nat} (hf : f_x_X2_number_2 x0 x1 x2 x3 τ = some (.inr q, τ1)) (hr : gK τ.1 x0 = 3) (ho : M.2.2.1 = RX2) (hfr : 11 ≤ M.2.2.2.1) (hlo : 623 ≤ M.2.2.2.2.1) (hcat : (st.map fun v => v.category).sum ≤ 8) (d : decode M.1 pc = .ok (.invokevirtual 120, 3)) (k : xT (wC D P) K M Q τ1 pc loc q) : xV (wC D P) K M Q τ pc loc (.int x3 :: .int x2 :: .ref x1 :: .ref x0 :: st) :=
  yc_callVX (g := τ.1) (c := τ.2) (Z := (.inr q, τ1)) (As := [.ref x1, .int x2, .int x3]) (rest := st) (met_f_x_X2_number_2 K.2.1 hf) (lw_V q717 q719 qs11 q179 q720) ⟨rfl, hd_f_x_X2_number_2⟩ ho hfr hlo rfl hr (by decide) (by decide) rfl rfl hcat d yx_noR (yx_thr k)
theorem hd_f_a_X7_init : yX7_init.cls ≠ "java/lang/invoke/MethodHandle" ∧ yX7_init.cls ≠ "java/lang/invoke/VarHandle" ∧ (parseMethodDescriptor yX7_init.desc).map (fun d => d.parameters.length) = some 6 := by decide +kernel
theorem call_f_a_X7_init_X2_199 {D : CD} {P : CP} {K : xK} {M : xM} {Q : State → Prop} {τ τ1 : CS} {x0 : Nat} {x1 : Nat} {x2 : Int32} {x3 : Int32} {x4 : Int32} {x5 : Int32} {x6 : Int32} {pc : Nat} {loc : List (Nat × Value)} {st : List Value} (hf : f_a_X7_init x0 x1 x2 x3 x4 x5 x6 τ = some τ1) (ho : M.2.2.1 = RX2) (hfr : 2 ≤ M.2.2.2.1) (hlo : 86 ≤ M.2.2.2.2.1) (hcat : (st.map fun v => v.category).sum ≤ 8) (d : decode M.1 pc = .ok (.invokespecial 199, 3)) (k : xV (wC D P) K M Q τ1 (pc + 3) loc st) : xV (wC D P) K M Q τ pc loc (.int x6 :: .int x5 :: .int x4 :: .int x3 :: .int x2 :: .ref x1 :: .ref x0 :: st) :=
  yc_callI (g := τ.1) (c := τ.2) (g1 := τ1.1) (c1 := τ1.2) (As := [.ref x1, .int x2, .int x3, .int x4, .int x5, .int x6]) (rest := st) (met_f_a_X7_init K.2.1 hf) (lw_meth q867) q865 q866 q193 rfl hd_f_a_X7_init ho hfr hlo rfl rfl hcat d k
theorem call_f_a_J2_add_X2_202 {D : CD} {P : CP} {K : xK} {M : xM} {Q : State → Prop} {τ τ1 : CS} {x0 : Nat} {x1 : Nat} {pc : Nat} {loc : List (Nat × Value)} {st : List Value} {r : Int32} (hf : f_a_J2_add x0 x1 τ = some (r, τ1)) (hr : gK τ.1 x0 = 18) (ho : M.2.2.1 = RX2) (hfr : 7 ≤ M.2.2.2.1) (hlo : 381 ≤ M.2.2.2.2.1) (hcat : (st.map fun v => v.category).sum ≤ 8) (d : decode M.1 pc = .ok (.invokeinterface 202 2, 5)) (k : xV (wC D P) K M Q τ1 (pc + 5) loc (.int r :: st)) : xV (wC D P) K M Q τ pc loc (.ref x1 :: .ref x0 :: st) :=
  yc_callF (g := τ.1) (c := τ.2) (g1 := τ1.1) (c1 := τ1.2) (n := 1) (As := [.ref x1]) (rest := st) (z := yList_add) (met_f_a_J2_add K.2.1 hf) (lw_2 q899 q902 (lw_2 q904 q178 (lw_meth q906))) (fun s h => h.2.2.2.2.2.1.2.2) (by decide +kernel) ho hfr hlo rfl hr rfl hcat d k
abbrev mX2_lord : xM := (cX2_lord, 6, RX2, 11, 660, none, "lord")
def f_x_X2_lord (x0 : Nat) (τ : CS) : Option ((Unit ⊕ Nat) × CS) :=
  if gT τ.1 x0 = 3 then
  xbx (f_x_X2_name x0 τ) (fun r2 τ2 =>
  if gT τ2.1 x0 = 3 then
  (cR τ2.2 306 x0).bind fun b4 =>
  if gT τ2.1 b4 = 2 then
  xbd (f_c_X1_isNamed τ2.1 b4 r2 τ2.2) fun r6 τ6 =>
  if r6 = 0 then
  (cR τ6 306 x0).bind fun b7 =>
  if gT τ2.1 b7 = 2 then
  xbx (f_x_X2_number_2 x0 (gA τ2.1 0 107) 0 ((cI τ6 201 b7) - 1) (τ2.1, τ6)) (fun r9 τ9 =>
  if gT τ9.1 x0 = 3 then
  (cR τ9.2 306 x0).bind fun b11 =>
  if gT τ9.1 b11 = 2 then
  xbx (f_x_X2_number_2 x0 (gA τ9.1 0 108) r9 ((cI τ9.2 201 b11) - 1) τ9) (fun r13 τ13 =>
  if gT τ13.1 x0 = 3 then
  xbx (f_x_X2_number_2 x0 (gA τ13.1 0 109) 0 99 τ13) (fun r15 τ15 =>
  if gT τ15.1 x0 = 3 then
  xbx (f_x_X2_number_2 x0 (gA τ15.1 0 110) 0 99 τ15) (fun r17 τ17 =>
  if gT τ17.1 x0 = 3 then
  (cR τ17.2 306 x0).bind fun b19 =>
  if gT τ17.1 b19 = 2 then
  (gR τ17.1 208 b19).bind fun b21 =>
  xbd (aNew 7 τ17) fun r22 τ22 =>
  if gT τ22.1 x0 = 3 then
  xbx (f_x_X2_number_2 x0 (gA τ22.1 0 111) 0 999 τ22) (fun r24 τ24 =>
  (f_a_X7_init r22 r2 r9 r13 r15 r17 r24 τ24).bind fun τ25 =>
  if gT τ25.1 b21 = 18 then
  xbd (f_a_J2_add b21 r22 τ25) fun r27 τ27 =>
  some ((.inl (), τ27))
  else none) (fun q28 τ28 => some ((.inr q28, τ28)))
  else none
  else none
  else none) (fun q29 τ29 => some ((.inr q29, τ29)))
  else none) (fun q30 τ30 => some ((.inr q30, τ30)))
  else none) (fun q31 τ31 => some ((.inr q31, τ31)))
  else none
  else none) (fun q32 τ32 => some ((.inr q32, τ32)))
  else none
  else
  xbd (f_c_X2_wrong τ2.1 x0 3 (cI τ6 303 x0) τ6) fun r33 τ33 =>
  if gT τ2.1 r33 = 4 then
  some ((.inr r33, (τ2.1, τ33)))
  else none
  else none
  else none) (fun q35 τ35 => some ((.inr q35, τ35)))
  else none
theorem ok_f_x_X2_lord {D : CD} {P : CP} {K : xK} (hno : xNoT K) {Z : (Option Value ⊕ Nat) × CS} {x0 : Nat} {τ : CS} {o_ : ((Unit ⊕ Nat) × CS)} (hf : f_x_X2_lord x0 τ = some o_) (kr : ∀ r_ : ((Unit ⊕ Nat) × CS), o_ = r_ → Z = (xzV r_.1, r_.2)) : xV (wC D P) K mX2_lord (xQX (wC D P) K Z) τ 0 [(0, .ref x0)] [] := by
  unfold f_x_X2_lord at hf
  refine xr_aload_n (pc := 0) 0 dX2_lord_0 rfl rfl ?_
  obtain ⟨ht1, hf⟩ := xo_if hf
  rcases xo_bx hf with ⟨r2, τ2, hτ2, hf⟩ | ⟨q35, τ35, hτ35, hf⟩
  · refine call_f_x_X2_name_X2_182_r (pc := 1) hτ2 (gKo ht1 (by decide)) rfl (Nat.le_of_ble_eq_true rfl) (Nat.le_of_ble_eq_true rfl) (Nat.le_of_ble_eq_true rfl) dX2_lord_1 ?_
    refine xr_astore_n (pc := 4) (loc' := [(1, .ref r2), (0, .ref x0)]) dX2_lord_4 rfl (by decide) rfl ?_
    refine xr_aload_n (pc := 5) 1 dX2_lord_5 rfl rfl ?_
    obtain ⟨ht3, hf⟩ := xo_if hf
    obtain ⟨b4, hb4, hf⟩ := xo_bind hf
    refine yc_getRs (pc := 6) 3 6 306 (gKo ht3 (by decide)) (by decide) (by decide) (by decide) rfl rfl hb4 q394 (ys_eq rfl) rfl dX2_lord_6 ?_
    refine xr_aload_n (pc := 9) 0 dX2_lord_9 rfl rfl ?_
    obtain ⟨ht5, hf⟩ := xo_if hf
    obtain ⟨r6, τ6, hτ6, hf⟩ := xo_bd hf
    refine call_f_c_X1_isNamed_X2_185 (pc := 10) hτ6 (gKo ht5 (by decide)) rfl (Nat.le_of_ble_eq_true rfl) (Nat.le_of_ble_eq_true rfl) (Nat.le_of_ble_eq_true rfl) dX2_lord_10 ?_
    refine xr_if_eq (pc := 13) 26 dX2_lord_13 (by decide) (fun c_ => ?_) (fun c_ => ?_)
    · have hf := xo_pos c_ hf
      refine xr_aload_n (pc := 26) 1 dX2_lord_26 rfl rfl ?_
      refine yc_ldcS (pc := 27) 7 (by decide) rfl rfl dX2_lord_27 ?_
      refine xr_iconst (pc := 29) dX2_lord_29 xci_0 ?_
      refine xr_aload_n (pc := 30) 1 dX2_lord_30 rfl rfl ?_
      obtain ⟨b7, hb7, hf⟩ := xo_bind hf
      refine yc_getRs (pc := 31) 3 6 306 (gKo ht3 (by decide)) (by decide) (by decide) (by decide) rfl rfl hb7 q394 (ys_eq rfl) rfl dX2_lord_31 ?_
      obtain ⟨ht8, hf⟩ := xo_if hf
      refine yc_getIN (pc := 34) 2 1 201 (gKo ht8 (by decide)) (by decide) (by decide) (by decide) rfl rfl q259 (ys_eq rfl) rfl dX2_lord_34 ?_
      refine xr_iconst (pc := 37) dX2_lord_37 xci_1 ?_
      refine xr_isub (pc := 38) dX2_lord_38 ?_
      rcases xo_bx hf with ⟨r9, τ9, hτ9, hf⟩ | ⟨q32, τ32, hτ32, hf⟩
      · refine call_f_x_X2_number_2_X2_120_r (pc := 39) hτ9 (gKo ht3 (by decide)) rfl (Nat.le_of_ble_eq_true rfl) (Nat.le_of_ble_eq_true rfl) (Nat.le_of_ble_eq_true rfl) dX2_lord_39 ?_
        refine xr_istore_n (pc := 42) (loc' := [(2, .int r9), (1, .ref r2), (0, .ref x0)]) dX2_lord_42 rfl (by decide) rfl ?_
        refine xr_aload_n (pc := 43) 2 dX2_lord_43 rfl rfl ?_
        refine yc_ldcS (pc := 44) 8 (by decide) rfl rfl dX2_lord_44 ?_
        refine xr_iload_n (pc := 46) 0 dX2_lord_46 rfl rfl ?_
        refine xr_aload_n (pc := 47) 2 dX2_lord_47 rfl rfl ?_
        obtain ⟨ht10, hf⟩ := xo_if hf
        obtain ⟨b11, hb11, hf⟩ := xo_bind hf
        refine yc_getRs (pc := 48) 3 6 306 (gKo ht10 (by decide)) (by decide) (by decide) (by decide) rfl rfl hb11 q394 (ys_eq rfl) rfl dX2_lord_48 ?_
        obtain ⟨ht12, hf⟩ := xo_if hf
        refine yc_getIN (pc := 51) 2 1 201 (gKo ht12 (by decide)) (by decide) (by decide) (by decide) rfl rfl q259 (ys_eq rfl) rfl dX2_lord_51 ?_
        refine xr_iconst (pc := 54) dX2_lord_54 xci_1 ?_
        refine xr_isub (pc := 55) dX2_lord_55 ?_
        rcases xo_bx hf with ⟨r13, τ13, hτ13, hf⟩ | ⟨q31, τ31, hτ31, hf⟩
        · refine call_f_x_X2_number_2_X2_120_r (pc := 56) hτ13 (gKo ht10 (by decide)) rfl (Nat.le_of_ble_eq_true rfl) (Nat.le_of_ble_eq_true rfl) (Nat.le_of_ble_eq_true rfl) dX2_lord_56 ?_
          refine xr_istore_n (pc := 59) (loc' := [(3, .int r13), (2, .int r9), (1, .ref r2), (0, .ref x0)]) dX2_lord_59 rfl (by decide) rfl ?_
          refine xr_aload_n (pc := 60) 3 dX2_lord_60 rfl rfl ?_
          refine yc_ldcS (pc := 61) 9 (by decide) rfl rfl dX2_lord_61 ?_
          refine xr_iconst (pc := 63) dX2_lord_63 xci_0 ?_
          refine xr_bipush (pc := 64) dX2_lord_64 xcb_99 ?_
          obtain ⟨ht14, hf⟩ := xo_if hf
          rcases xo_bx hf with ⟨r15, τ15, hτ15, hf⟩ | ⟨q30, τ30, hτ30, hf⟩
          · refine call_f_x_X2_number_2_X2_120_r (pc := 66) hτ15 (gKo ht14 (by decide)) rfl (Nat.le_of_ble_eq_true rfl) (Nat.le_of_ble_eq_true rfl) (Nat.le_of_ble_eq_true rfl) dX2_lord_66 ?_
            refine xr_istore (pc := 69) (loc' := [(4, .int r15), (3, .int r13), (2, .int r9), (1, .ref r2), (0, .ref x0)]) dX2_lord_69 (by decide) rfl ?_
            refine xr_aload_n (pc := 71) 4 dX2_lord_71 rfl rfl ?_
            refine yc_ldcS (pc := 72) 10 (by decide) rfl rfl dX2_lord_72 ?_
            refine xr_iconst (pc := 74) dX2_lord_74 xci_0 ?_
            refine xr_bipush (pc := 75) dX2_lord_75 xcb_99 ?_
            obtain ⟨ht16, hf⟩ := xo_if hf
            rcases xo_bx hf with ⟨r17, τ17, hτ17, hf⟩ | ⟨q29, τ29, hτ29, hf⟩
            · refine call_f_x_X2_number_2_X2_120_r (pc := 77) hτ17 (gKo ht16 (by decide)) rfl (Nat.le_of_ble_eq_true rfl) (Nat.le_of_ble_eq_true rfl) (Nat.le_of_ble_eq_true rfl) dX2_lord_77 ?_
              refine xr_istore (pc := 80) (loc' := [(5, .int r17), (4, .int r15), (3, .int r13), (2, .int r9), (1, .ref r2), (0, .ref x0)]) dX2_lord_80 (by decide) rfl ?_
              refine xr_aload_n (pc := 82) 5 dX2_lord_82 rfl rfl ?_
              obtain ⟨ht18, hf⟩ := xo_if hf
              obtain ⟨b19, hb19, hf⟩ := xo_bind hf
              refine yc_getRs (pc := 83) 3 6 306 (gKo ht18 (by decide)) (by decide) (by decide) (by decide) rfl rfl hb19 q394 (ys_eq rfl) rfl dX2_lord_83 ?_
              obtain ⟨ht20, hf⟩ := xo_if hf
              obtain ⟨b21, hb21, hf⟩ := xo_bind hf
              refine yc_getFsN (pc := 86) 2 8 208 (gKo ht20 (by decide)) (by decide) (by decide) (by decide) rfl rfl hb21 q281 (ys_eq rfl) rfl dX2_lord_86 ?_
              obtain ⟨r22, τ22, hτ22, hf⟩ := xo_bd hf
              refine yc_aNew (pc := 89) 7 (by decide) (by decide) q862 q863 q193 hτ22 rfl dX2_lord_89 ?_
              refine xr_dup (pc := 92) dX2_lord_92 rfl ?_
              refine xr_aload_n (pc := 93) 4 dX2_lord_93 rfl rfl ?_
              refine xr_iload_n (pc := 94) 3 dX2_lord_94 rfl rfl ?_
              refine xr_iload_n (pc := 95) 2 dX2_lord_95 rfl rfl ?_
              refine xr_iload (pc := 96) 1 dX2_lord_96 rfl ?_
              refine xr_iload (pc := 98) 0 dX2_lord_98 rfl ?_
              refine xr_aload_n (pc := 100) 5 dX2_lord_100 rfl rfl ?_
              refine yc_ldcS (pc := 101) 11 (by decide) rfl rfl dX2_lord_101 ?_
              refine xr_iconst (pc := 103) dX2_lord_103 xci_0 ?_
              refine xr_sipush (pc := 104) dX2_lord_104 xcs_999 ?_
              obtain ⟨ht23, hf⟩ := xo_if hf
              rcases xo_bx hf with ⟨r24, τ24, hτ24, hf⟩ | ⟨q28, τ28, hτ28, hf⟩
              · refine call_f_x_X2_number_2_X2_120_r (pc := 107) hτ24 (gKo ht23 (by decide)) rfl (Nat.le_of_ble_eq_true rfl) (Nat.le_of_ble_eq_true rfl) (Nat.le_of_ble_eq_true rfl) dX2_lord_107 ?_
                obtain ⟨τ25, hτ25, hf⟩ := xo_bind hf
                refine call_f_a_X7_init_X2_199 (pc := 110) hτ25 rfl (Nat.le_of_ble_eq_true rfl) (Nat.le_of_ble_eq_true rfl) (Nat.le_of_ble_eq_true rfl) dX2_lord_110 ?_
                obtain ⟨ht26, hf⟩ := xo_if hf
                obtain ⟨r27, τ27, hτ27, hf⟩ := xo_bd hf
                refine call_f_a_J2_add_X2_202 (pc := 113) hτ27 (gKo ht26 (by decide)) rfl (Nat.le_of_ble_eq_true rfl) (Nat.le_of_ble_eq_true rfl) (Nat.le_of_ble_eq_true rfl) dX2_lord_113 ?_
                refine xr_pop (pc := 118) dX2_lord_118 rfl ?_
                rw [kr _ (Option.some.inj hf).symm]
                exact xV_ret (xr_vret (pc := 119) dX2_lord_119 rfl)
              · refine call_f_x_X2_number_2_X2_120_t (pc := 107) hτ28 (gKo ht23 (by decide)) rfl (Nat.le_of_ble_eq_true rfl) (Nat.le_of_ble_eq_true rfl) (Nat.le_of_ble_eq_true rfl) dX2_lord_107 ?_
                rw [kr _ (Option.some.inj hf).symm]
                exact xT_out hno
            · refine call_f_x_X2_number_2_X2_120_t (pc := 77) hτ29 (gKo ht16 (by decide)) rfl (Nat.le_of_ble_eq_true rfl) (Nat.le_of_ble_eq_true rfl) (Nat.le_of_ble_eq_true rfl) dX2_lord_77 ?_
              rw [kr _ (Option.some.inj hf).symm]
              exact xT_out hno
          · refine call_f_x_X2_number_2_X2_120_t (pc := 66) hτ30 (gKo ht14 (by decide)) rfl (Nat.le_of_ble_eq_true rfl) (Nat.le_of_ble_eq_true rfl) (Nat.le_of_ble_eq_true rfl) dX2_lord_66 ?_
            rw [kr _ (Option.some.inj hf).symm]
            exact xT_out hno
        · refine call_f_x_X2_number_2_X2_120_t (pc := 56) hτ31 (gKo ht10 (by decide)) rfl (Nat.le_of_ble_eq_true rfl) (Nat.le_of_ble_eq_true rfl) (Nat.le_of_ble_eq_true rfl) dX2_lord_56 ?_
          rw [kr _ (Option.some.inj hf).symm]
          exact xT_out hno
      · refine call_f_x_X2_number_2_X2_120_t (pc := 39) hτ32 (gKo ht3 (by decide)) rfl (Nat.le_of_ble_eq_true rfl) (Nat.le_of_ble_eq_true rfl) (Nat.le_of_ble_eq_true rfl) dX2_lord_39 ?_
        rw [kr _ (Option.some.inj hf).symm]
        exact xT_out hno
    · have hf := xo_neg c_ hf
      refine xr_aload_n (pc := 16) 1 dX2_lord_16 rfl rfl ?_
      refine xr_iconst (pc := 17) dX2_lord_17 xci_3 ?_
      refine xr_aload_n (pc := 18) 1 dX2_lord_18 rfl rfl ?_
      refine yc_getI (pc := 19) 3 3 303 (gKo ht3 (by decide)) (by decide) (by decide) (by decide) rfl rfl q391 (ys_eq rfl) rfl dX2_lord_19 ?_
      obtain ⟨r33, τ33, hτ33, hf⟩ := xo_bd hf
      refine call_f_c_X2_wrong_X2_47 (pc := 22) hτ33 (gKo ht3 (by decide)) rfl (Nat.le_of_ble_eq_true rfl) (Nat.le_of_ble_eq_true rfl) (Nat.le_of_ble_eq_true rfl) dX2_lord_22 ?_
      obtain ⟨ht34, hf⟩ := xo_if hf
      rw [kr _ (Option.some.inj hf).symm]
      exact yc_athrow (pc := 25) (gKo ht34 (by decide)) (by decide) (by decide) rfl dX2_lord_25 (xT_out hno)
  · refine call_f_x_X2_name_X2_182_t (pc := 1) hτ35 (gKo ht1 (by decide)) rfl (Nat.le_of_ble_eq_true rfl) (Nat.le_of_ble_eq_true rfl) (Nat.le_of_ble_eq_true rfl) dX2_lord_1 ?_
    rw [kr _ (Option.some.inj hf).symm]
    exact xT_out hno
theorem met_f_x_X2_lord (l : Launch) {D : CD} {P : CP} {x0 : Nat} {τ : CS} {o_ : ((Unit ⊕ Nat) × CS)} (hf : f_x_X2_lord x0 τ = some o_) : xMetX (wC D P) l yX2_lord (ws_ yX2_lord cX2_lord 6 none) 11 660 (grc τ.1) (grs τ.1) [.ref x0] τ (xzV o_.1, o_.2) := 
  xMetX_of (by decide) (Nat.le_of_ble_eq_true rfl) KC_moved (RPC_of (g := τ.1) (c := τ.2)) (fun K _ _ _ hno => ok_f_x_X2_lord hno hf (fun _ h => by rw [h]))
theorem hd_f_c_J6_hashCode : yJ6_hashCode.cls ≠ "java/lang/invoke/MethodHandle" ∧ yJ6_hashCode.cls ≠ "java/lang/invoke/VarHandle" ∧ (parseMethodDescriptor yJ6_hashCode.desc).map (fun d => d.parameters.length) = some 0 := by decide +kernel
theorem call_f_c_J6_hashCode_X2_146 {D : CD} {P : CP} {K : xK} {M : xM} {Q : State → Prop} {g : CG} {c : CC} {x0 : Nat} {pc : Nat} {loc : List (Nat × Value)} {st : List Value} {r : Int32} {c1 : CC} (hf : f_c_J6_hashCode g x0 c = some (r, c1)) (hr : gK g x0 = 19) (ho : M.2.2.1 = RX2) (hfr : 4 ≤ M.2.2.2.1) (hlo : 201 ≤ M.2.2.2.2.1) (hcat : (st.map fun v => v.category).sum ≤ 8) (d : decode M.1 pc = .ok (.invokevirtual 146, 3)) (k : xV (wC D P) K M Q (g, c1) (pc + 3) loc (.int r :: st)) : xV (wC D P) K M Q (g, c) pc loc (.ref x0 :: st) :=
  yc_callV (As := []) (rest := st) (met_f_c_J6_hashCode K.2.1 hf) (lw_V q734 q735 q736 q187 q737) ⟨rfl, hd_f_c_J6_hashCode⟩ ho hfr hlo rfl hr (by decide) (by decide) rfl rfl hcat d k
theorem call_f_c_J2_size_X2_176 {D : CD} {P : CP} {K : xK} {M : xM} {Q : State → Prop} {g : CG} {c : CC} {x0 : Nat} {pc : Nat} {loc : List (Nat × Value)} {st : List Value} {r : Int32} {c1 : CC} (hf : f_c_J2_size g x0 c = some (r, c1)) (hr : gK g x0 = 18) (ho : M.2.2.1 = RX2) (hfr : 1 ≤ M.2.2.2.1) (hlo : 20 ≤ M.2.2.2.2.1) (hcat : (st.map fun v => v.category).sum ≤ 8) (d : decode M.1 pc = .ok (.invokeinterface 176 1, 5)) (k : xV (wC D P) K M Q (g, c1) (pc + 5) loc (.int r :: st)) : xV (wC D P) K M Q (g, c) pc loc (.ref x0 :: st) :=
  yc_callF (n := 0) (As := []) (rest := st) (z := yList_size) (met_f_c_J2_size K.2.1 hf) (lw_2 q800 q804 (lw_2 q806 q178 (lw_meth q808))) (fun s h => h.2.2.2.2.2.1.1) (by decide +kernel) ho hfr hlo rfl hr rfl hcat d k
theorem hd_f_x_X2_most : yX2_most.cls ≠ "java/lang/invoke/MethodHandle" ∧ yX2_most.cls ≠ "java/lang/invoke/VarHandle" ∧ (parseMethodDescriptor yX2_most.desc).map (fun d => d.parameters.length) = some 2 := by decide +kernel
theorem call_f_x_X2_most_X2_134_r {D : CD} {P : CP} {K : xK} {M : xM} {Q : State → Prop} {τ τ1 : CS} {x0 : Nat} {x1 : Int32} {x2 : Int32} {pc : Nat} {loc : List (Nat × Value)} {st : List Value} (hf : f_x_X2_most x0 x1 x2 τ = some (.inl (), τ1)) (hr : gK τ.1 x0 = 3) (ho : M.2.2.1 = RX2) (hfr : 2 ≤ M.2.2.2.1) (hlo : 82 ≤ M.2.2.2.2.1) (hcat : (st.map fun v => v.category).sum ≤ 8) (d : decode M.1 pc = .ok (.invokevirtual 134, 3)) (k : xV (wC D P) K M Q τ1 (pc + 3) loc st) : xV (wC D P) K M Q τ pc loc (.int x2 :: .int x1 :: .ref x0 :: st) :=
  yc_callVX (g := τ.1) (c := τ.2) (Z := (.inl none, τ1)) (As := [.int x1, .int x2]) (rest := st) (met_f_x_X2_most K.2.1 hf) (lw_V q726 q728 qs13 q179 q729) ⟨rfl, hd_f_x_X2_most⟩ ho hfr hlo rfl hr (by decide) (by decide) rfl rfl hcat d (yx_ret (v := none) k) yx_noT
theorem call_f_x_X2_most_X2_134_t {D : CD} {P : CP} {K : xK} {M : xM} {Q : State → Prop} {τ τ1 : CS} {x0 : Nat} {x1 : Int32} {x2 : Int32} {pc : Nat} {loc : List (Nat × Value)} {st : List Value} {q : Nat} (hf : f_x_X2_most x0 x1 x2 τ = some (.inr q, τ1)) (hr : gK τ.1 x0 = 3) (ho : M.2.2.1 = RX2) (hfr : 2 ≤ M.2.2.2.1) (hlo : 82 ≤ M.2.2.2.2.1) (hcat : (st.map fun v => v.category).sum ≤ 8) (d : decode M.1 pc = .ok (.invokevirtual 134, 3)) (k : xT (wC D P) K M Q τ1 pc loc q) : xV (wC D P) K M Q τ pc loc (.int x2 :: .int x1 :: .ref x0 :: st) :=
  yc_callVX (g := τ.1) (c := τ.2) (Z := (.inr q, τ1)) (As := [.int x1, .int x2]) (rest := st) (met_f_x_X2_most K.2.1 hf) (lw_V q726 q728 qs13 q179 q729) ⟨rfl, hd_f_x_X2_most⟩ ho hfr hlo rfl hr (by decide) (by decide) rfl rfl hcat d yx_noR (yx_thr k)
theorem hd_f_x_X2_lord : yX2_lord.cls ≠ "java/lang/invoke/MethodHandle" ∧ yX2_lord.cls ≠ "java/lang/invoke/VarHandle" ∧ (parseMethodDescriptor yX2_lord.desc).map (fun d => d.parameters.length) = some 0 := by decide +kernel
theorem call_f_x_X2_lord_X2_180_r {D : CD} {P : CP} {K : xK} {M : xM} {Q : State → Prop} {τ τ1 : CS} {x0 : Nat} {pc : Nat} {loc : List (Nat × Value)} {st : List Value} (hf : f_x_X2_lord x0 τ = some (.inl (), τ1)) (hr : gK τ.1 x0 = 3) (ho : M.2.2.1 = RX2) (hfr : 12 ≤ M.2.2.2.1) (hlo : 685 ≤ M.2.2.2.2.1) (hcat : (st.map fun v => v.category).sum ≤ 8) (d : decode M.1 pc = .ok (.invokevirtual 180, 3)) (k : xV (wC D P) K M Q τ1 (pc + 3) loc st) : xV (wC D P) K M Q τ pc loc (.ref x0 :: st) :=
  yc_callVX (g := τ.1) (c := τ.2) (Z := (.inl none, τ1)) (As := []) (rest := st) (met_f_x_X2_lord K.2.1 hf) (lw_V q809 q811 qs17 q179 q812) ⟨rfl, hd_f_x_X2_lord⟩ ho hfr hlo rfl hr (by decide) (by decide) rfl rfl hcat d (yx_ret (v := none) k) yx_noT
theorem call_f_x_X2_lord_X2_180_t {D : CD} {P : CP} {K : xK} {M : xM} {Q : State → Prop} {τ τ1 : CS} {x0 : Nat} {pc : Nat} {loc : List (Nat × Value)} {st : List Value} {q : Nat} (hf : f_x_X2_lord x0 τ = some (.inr q, τ1)) (hr : gK τ.1 x0 = 3) (ho : M.2.2.1 = RX2) (hfr : 12 ≤ M.2.2.2.1) (hlo : 685 ≤ M.2.2.2.2.1) (hcat : (st.map fun v => v.category).sum ≤ 8) (d : decode M.1 pc = .ok (.invokevirtual 180, 3)) (k : xT (wC D P) K M Q τ1 pc loc q) : xV (wC D P) K M Q τ pc loc (.ref x0 :: st) :=
  yc_callVX (g := τ.1) (c := τ.2) (Z := (.inr q, τ1)) (As := []) (rest := st) (met_f_x_X2_lord K.2.1 hf) (lw_V q809 q811 qs17 q179 q812) ⟨rfl, hd_f_x_X2_lord⟩ ho hfr hlo rfl hr (by decide) (by decide) rfl rfl hcat d yx_noR (yx_thr k)
theorem hd_f_x_X2_column : yX2_column.cls ≠ "java/lang/invoke/MethodHandle" ∧ yX2_column.cls ≠ "java/lang/invoke/VarHandle" ∧ (parseMethodDescriptor yX2_column.desc).map (fun d => d.parameters.length) = some 0 := by decide +kernel
theorem call_f_x_X2_column_X2_157_r {D : CD} {P : CP} {K : xK} {M : xM} {Q : State → Prop} {τ τ1 : CS} {x0 : Nat} {pc : Nat} {loc : List (Nat × Value)} {st : List Value} {r : Int32} (hf : f_x_X2_column x0 τ = some (.inl r, τ1)) (hr : gK τ.1 x0 = 3) (ho : M.2.2.1 = RX2) (hfr : 4 ≤ M.2.2.2.1) (hlo : 200 ≤ M.2.2.2.2.1) (hcat : (st.map fun v => v.category).sum ≤ 8) (d : decode M.1 pc = .ok (.invokevirtual 157, 3)) (k : xV (wC D P) K M Q τ1 (pc + 3) loc (.int r :: st)) : xV (wC D P) K M Q τ pc loc (.ref x0 :: st) :=
  yc_callVX (g := τ.1) (c := τ.2) (Z := (.inl (some (.int r)), τ1)) (As := []) (rest := st) (met_f_x_X2_column K.2.1 hf) (lw_V q791 q793 qs15 q179 q794) ⟨rfl, hd_f_x_X2_column⟩ ho hfr hlo rfl hr (by decide) (by decide) rfl rfl hcat d (yx_ret (v := some (.int r)) k) yx_noT
theorem call_f_x_X2_column_X2_157_t {D : CD} {P : CP} {K : xK} {M : xM} {Q : State → Prop} {τ τ1 : CS} {x0 : Nat} {pc : Nat} {loc : List (Nat × Value)} {st : List Value} {q : Nat} (hf : f_x_X2_column x0 τ = some (.inr q, τ1)) (hr : gK τ.1 x0 = 3) (ho : M.2.2.1 = RX2) (hfr : 4 ≤ M.2.2.2.1) (hlo : 200 ≤ M.2.2.2.2.1) (hcat : (st.map fun v => v.category).sum ≤ 8) (d : decode M.1 pc = .ok (.invokevirtual 157, 3)) (k : xT (wC D P) K M Q τ1 pc loc q) : xV (wC D P) K M Q τ pc loc (.ref x0 :: st) :=
  yc_callVX (g := τ.1) (c := τ.2) (Z := (.inr q, τ1)) (As := []) (rest := st) (met_f_x_X2_column K.2.1 hf) (lw_V q791 q793 qs15 q179 q794) ⟨rfl, hd_f_x_X2_column⟩ ho hfr hlo rfl hr (by decide) (by decide) rfl rfl hcat d yx_noR (yx_thr k)
theorem hd_f_x_X2_row : yX2_row.cls ≠ "java/lang/invoke/MethodHandle" ∧ yX2_row.cls ≠ "java/lang/invoke/VarHandle" ∧ (parseMethodDescriptor yX2_row.desc).map (fun d => d.parameters.length) = some 0 := by decide +kernel
theorem call_f_x_X2_row_X2_163_r {D : CD} {P : CP} {K : xK} {M : xM} {Q : State → Prop} {τ τ1 : CS} {x0 : Nat} {pc : Nat} {loc : List (Nat × Value)} {st : List Value} {r : Int32} (hf : f_x_X2_row x0 τ = some (.inl r, τ1)) (hr : gK τ.1 x0 = 3) (ho : M.2.2.1 = RX2) (hfr : 4 ≤ M.2.2.2.1) (hlo : 200 ≤ M.2.2.2.2.1) (hcat : (st.map fun v => v.category).sum ≤ 8) (d : decode M.1 pc = .ok (.invokevirtual 163, 3)) (k : xV (wC D P) K M Q τ1 (pc + 3) loc (.int r :: st)) : xV (wC D P) K M Q τ pc loc (.ref x0 :: st) :=
  yc_callVX (g := τ.1) (c := τ.2) (Z := (.inl (some (.int r)), τ1)) (As := []) (rest := st) (met_f_x_X2_row K.2.1 hf) (lw_V q795 q797 qs16 q179 q798) ⟨rfl, hd_f_x_X2_row⟩ ho hfr hlo rfl hr (by decide) (by decide) rfl rfl hcat d (yx_ret (v := some (.int r)) k) yx_noT
theorem call_f_x_X2_row_X2_163_t {D : CD} {P : CP} {K : xK} {M : xM} {Q : State → Prop} {τ τ1 : CS} {x0 : Nat} {pc : Nat} {loc : List (Nat × Value)} {st : List Value} {q : Nat} (hf : f_x_X2_row x0 τ = some (.inr q, τ1)) (hr : gK τ.1 x0 = 3) (ho : M.2.2.1 = RX2) (hfr : 4 ≤ M.2.2.2.1) (hlo : 200 ≤ M.2.2.2.2.1) (hcat : (st.map fun v => v.category).sum ≤ 8) (d : decode M.1 pc = .ok (.invokevirtual 163, 3)) (k : xT (wC D P) K M Q τ1 pc loc q) : xV (wC D P) K M Q τ pc loc (.ref x0 :: st) :=
  yc_callVX (g := τ.1) (c := τ.2) (Z := (.inr q, τ1)) (As := []) (rest := st) (met_f_x_X2_row K.2.1 hf) (lw_V q795 q797 qs16 q179 q798) ⟨rfl, hd_f_x_X2_row⟩ ho hfr hlo rfl hr (by decide) (by decide) rfl rfl hcat d yx_noR (yx_thr k)
abbrev mX2_laid : xM := (cX2_laid, 10, RX2, 12, 720, (some .boolean), "laid")
def Jc_X2_laid_277 (x0 : Nat) (x2 : Int32) (s0 : Int32) (s1 : Nat) (τ : CS) : Option ((Int32 ⊕ Nat) × CS) :=
  if gT τ.1 s1 = 3 then
  xbx (f_x_X2_most s1 s0 x2 τ) (fun r10 τ10 =>
  if gT τ10.1 x0 = 3 then
  xbx (f_x_X2_lord x0 τ10) (fun r12 τ12 =>
  some ((.inl 1, τ12))) (fun q13 τ13 => some ((.inr q13, τ13)))
  else none) (fun q14 τ14 => some ((.inr q14, τ14)))
  else none
theorem ok_Jc_X2_laid_277 {D : CD} {P : CP} {K : xK} (hno : xNoT K) {Z : (Option Value ⊕ Nat) × CS} {x0 : Nat} {x2 : Int32} {s0 : Int32} {s1 : Nat} {τ : CS} {o_ : ((Int32 ⊕ Nat) × CS)} (hf : Jc_X2_laid_277 x0 x2 s0 s1 τ = some o_) (kr : ∀ r_ : ((Int32 ⊕ Nat) × CS), o_ = r_ → Z = (xzI r_.1, r_.2)) : xV (wC D P) K mX2_laid (xQX (wC D P) K Z) τ 277 [(0, .ref x0), (2, .int x2)] [.int s0, .ref s1] := by
  unfold Jc_X2_laid_277 at hf
  refine xr_iload_n (pc := 277) 1 dX2_laid_277 rfl rfl ?_
  obtain ⟨ht9, hf⟩ := xo_if hf
  rcases xo_bx hf with ⟨r10, τ10, hτ10, hf⟩ | ⟨q14, τ14, hτ14, hf⟩
  · refine call_f_x_X2_most_X2_134_r (pc := 278) hτ10 (gKo ht9 (by decide)) rfl (Nat.le_of_ble_eq_true rfl) (Nat.le_of_ble_eq_true rfl) (Nat.le_of_ble_eq_true rfl) dX2_laid_278 ?_
    refine xr_aload_n (pc := 281) 0 dX2_laid_281 rfl rfl ?_
    obtain ⟨ht11, hf⟩ := xo_if hf
    rcases xo_bx hf with ⟨r12, τ12, hτ12, hf⟩ | ⟨q13, τ13, hτ13, hf⟩
    · refine call_f_x_X2_lord_X2_180_r (pc := 282) hτ12 (gKo ht11 (by decide)) rfl (Nat.le_of_ble_eq_true rfl) (Nat.le_of_ble_eq_true rfl) (Nat.le_of_ble_eq_true rfl) dX2_laid_282 ?_
      refine xr_iconst (pc := 285) dX2_laid_285 xci_1 ?_
      rw [kr _ (Option.some.inj hf).symm]
      exact xV_ret (xr_zret (pc := 286) dX2_laid_286 rfl xz_1)
    · refine call_f_x_X2_lord_X2_180_t (pc := 282) hτ13 (gKo ht11 (by decide)) rfl (Nat.le_of_ble_eq_true rfl) (Nat.le_of_ble_eq_true rfl) (Nat.le_of_ble_eq_true rfl) dX2_laid_282 ?_
      rw [kr _ (Option.some.inj hf).symm]
      exact xT_out hno
  · refine call_f_x_X2_most_X2_134_t (pc := 278) hτ14 (gKo ht9 (by decide)) rfl (Nat.le_of_ble_eq_true rfl) (Nat.le_of_ble_eq_true rfl) (Nat.le_of_ble_eq_true rfl) dX2_laid_278 ?_
    rw [kr _ (Option.some.inj hf).symm]
    exact xT_out hno
def Jc_X2_laid_109 (x0 : Nat) (x2 : Int32) (x4 : Int32) (τ : CS) : Option ((Int32 ⊕ Nat) × CS) :=
  if x4 = 0 then
  if gT τ.1 x0 = 3 then
  xbx (f_x_X2_column x0 τ) (fun r49 τ49 =>
  if gT τ49.1 x0 = 3 then
  (cR τ49.2 306 x0).bind fun b51 =>
  if gT τ49.1 b51 = 2 then
  (gR τ49.1 205 b51).bind fun b53 =>
  xbx (f_x_X2_row x0 τ49) (fun r54 τ54 =>
  if gT τ54.1 b53 = 100 then
  if xin r49 (gN τ54.1 b53) = true then
  some ((.inl 1, (τ54.1, uA τ54.2 b53 r49.toNatClampNeg r54)))
  else none
  else none) (fun q56 τ56 => some ((.inr q56, τ56)))
  else none
  else none) (fun q57 τ57 => some ((.inr q57, τ57)))
  else none
  else
  if x4 = 1 then
  if gT τ.1 x0 = 3 then
  xbx (f_x_X2_column x0 τ) (fun r35 τ35 =>
  if gT τ35.1 x0 = 3 then
  xbx (f_x_X2_row x0 τ35) (fun r37 τ37 =>
  if gT τ37.1 x0 = 3 then
  (cR τ37.2 306 x0).bind fun b39 =>
  if gT τ37.1 b39 = 2 then
  (gR τ37.1 206 b39).bind fun b41 =>
  if gT τ37.1 b41 = 105 then
  if xin r35 (gN τ37.1 b41) = true then
  xbx (f_x_X2_number x0 0 9 τ37) (fun r43 τ43 =>
  if gT τ43.1 (gA τ37.1 b41 r35.toNatClampNeg) = 100 then
  if xin r37 (gN τ43.1 (gA τ37.1 b41 r35.toNatClampNeg)) = true then
  some ((.inl 1, (τ43.1, uA τ43.2 (gA τ37.1 b41 r35.toNatClampNeg) r37.toNatClampNeg r43)))
  else none
  else none) (fun q45 τ45 => some ((.inr q45, τ45)))
  else none
  else none
  else none
  else none) (fun q46 τ46 => some ((.inr q46, τ46)))
  else none) (fun q47 τ47 => some ((.inr q47, τ47)))
  else none
  else
  if x4 = 2 then
  if gT τ.1 x0 = 3 then
  xbx (f_x_X2_column x0 τ) (fun r16 τ16 =>
  if gT τ16.1 x0 = 3 then
  xbx (f_x_X2_row x0 τ16) (fun r18 τ18 =>
  if gT τ18.1 x0 = 3 then
  (cR τ18.2 306 x0).bind fun b20 =>
  if gT τ18.1 b20 = 2 then
  (gR τ18.1 207 b20).bind fun b22 =>
  if gT τ18.1 b22 = 105 then
  if xin r16 (gN τ18.1 b22) = true then
  if gT τ18.1 (gA τ18.1 b22 r16.toNatClampNeg) = 100 then
  if xin r18 (gN τ18.1 (gA τ18.1 b22 r16.toNatClampNeg)) = true then
  if (cA τ18.2 (gA τ18.1 b22 r16.toNatClampNeg) r18.toNatClampNeg) = 9 then
  xbd (f_c_X2_wrong τ18.1 x0 2 (cI τ18.2 303 x0) τ18.2) fun r25 τ25 =>
  if gT τ18.1 r25 = 4 then
  some ((.inr r25, (τ18.1, τ25)))
  else none
  else
  (cR τ18.2 306 x0).bind fun b27 =>
  if gT τ18.1 b27 = 2 then
  (gR τ18.1 207 b27).bind fun b29 =>
  if gT τ18.1 b29 = 105 then
  if xin r16 (gN τ18.1 b29) = true then
  if gT τ18.1 (gA τ18.1 b29 r16.toNatClampNeg) = 100 then
  if xin r18 (gN τ18.1 (gA τ18.1 b29 r16.toNatClampNeg)) = true then
  if xin r18 (gN τ18.1 (gA τ18.1 b29 r16.toNatClampNeg)) = true then
  some ((.inl 1, (τ18.1, uA τ18.2 (gA τ18.1 b29 r16.toNatClampNeg) r18.toNatClampNeg ((cA τ18.2 (gA τ18.1 b29 r16.toNatClampNeg) r18.toNatClampNeg) + 1))))
  else none
  else none
  else none
  else none
  else none
  else none
  else none
  else none
  else none
  else none
  else none
  else none) (fun q32 τ32 => some ((.inr q32, τ32)))
  else none) (fun q33 τ33 => some ((.inr q33, τ33)))
  else none
  else
  if x4 = 3 then
  if gT τ.1 x0 = 3 then
  (cR τ.2 306 x0).bind fun b4 =>
  if gT τ.1 b4 = 2 then
  (gR τ.1 208 b4).bind fun b6 =>
  if gT τ.1 b6 = 18 then
  xbd (f_c_J2_size τ.1 b6 τ.2) fun r8 τ8 =>
  if r8 = 5 then
  Jc_X2_laid_277 x0 x2 1 x0 (τ.1, τ8)
  else
  Jc_X2_laid_277 x0 x2 0 x0 (τ.1, τ8)
  else none
  else none
  else none
  else
  some ((.inl 0, τ))
theorem ok_Jc_X2_laid_109 {D : CD} {P : CP} {K : xK} (hno : xNoT K) {Z : (Option Value ⊕ Nat) × CS} {x0 : Nat} {x2 : Int32} {x4 : Int32} {τ : CS} {o_ : ((Int32 ⊕ Nat) × CS)} (hf : Jc_X2_laid_109 x0 x2 x4 τ = some o_) (kr : ∀ r_ : ((Int32 ⊕ Nat) × CS), o_ = r_ → Z = (xzI r_.1, r_.2)) : xV (wC D P) K mX2_laid (xQX (wC D P) K Z) τ 109 [(0, .ref x0), (2, .int x2), (4, .int x4)] [] := by
  unfold Jc_X2_laid_109 at hf
  refine xr_iload (pc := 109) 2 dX2_laid_109 rfl ?_
  by_cases c0_ : x4 = 0
  · have hf := xo_pos c0_ hf
    refine xr_tsw_in (pc := 111) (v := 0) (off := 29) 140 dX2_laid_111 c0_ (by decide) (by decide +kernel) (by decide) ?_
    refine xr_aload_n (pc := 140) 0 dX2_laid_140 rfl rfl ?_
    obtain ⟨ht48, hf⟩ := xo_if hf
    rcases xo_bx hf with ⟨r49, τ49, hτ49, hf⟩ | ⟨q57, τ57, hτ57, hf⟩
    · refine call_f_x_X2_column_X2_157_r (pc := 141) hτ49 (gKo ht48 (by decide)) rfl (Nat.le_of_ble_eq_true rfl) (Nat.le_of_ble_eq_true rfl) (Nat.le_of_ble_eq_true rfl) dX2_laid_141 ?_
      refine xr_istore (pc := 144) (loc' := [(5, .int r49), (0, .ref x0), (2, .int x2), (4, .int x4)]) dX2_laid_144 (by decide) rfl ?_
      refine xr_aload_n (pc := 146) 1 dX2_laid_146 rfl rfl ?_
      obtain ⟨ht50, hf⟩ := xo_if hf
      obtain ⟨b51, hb51, hf⟩ := xo_bind hf
      refine yc_getRs (pc := 147) 3 6 306 (gKo ht50 (by decide)) (by decide) (by decide) (by decide) rfl rfl hb51 q394 (ys_eq rfl) rfl dX2_laid_147 ?_
      obtain ⟨ht52, hf⟩ := xo_if hf
      obtain ⟨b53, hb53, hf⟩ := xo_bind hf
      refine yc_getFsN (pc := 150) 2 5 205 (gKo ht52 (by decide)) (by decide) (by decide) (by decide) rfl rfl hb53 q271 (ys_eq rfl) rfl dX2_laid_150 ?_
      refine xr_iload (pc := 153) 0 dX2_laid_153 rfl ?_
      refine xr_aload_n (pc := 155) 1 dX2_laid_155 rfl rfl ?_
      rcases xo_bx hf with ⟨r54, τ54, hτ54, hf⟩ | ⟨q56, τ56, hτ56, hf⟩
      · refine call_f_x_X2_row_X2_163_r (pc := 156) hτ54 (gKo ht50 (by decide)) rfl (Nat.le_of_ble_eq_true rfl) (Nat.le_of_ble_eq_true rfl) (Nat.le_of_ble_eq_true rfl) dX2_laid_156 ?_
        obtain ⟨ht55, hf⟩ := xo_if hf
        obtain ⟨hi_, hf⟩ := xo_if hf
        refine yc_iast (pc := 159) ht55 hi_ dX2_laid_159 ?_
        refine xr_iconst (pc := 160) dX2_laid_160 xci_1 ?_
        rw [kr _ (Option.some.inj hf).symm]
        exact xV_ret (xr_zret (pc := 161) dX2_laid_161 rfl xz_1)
      · refine call_f_x_X2_row_X2_163_t (pc := 156) hτ56 (gKo ht50 (by decide)) rfl (Nat.le_of_ble_eq_true rfl) (Nat.le_of_ble_eq_true rfl) (Nat.le_of_ble_eq_true rfl) dX2_laid_156 ?_
        rw [kr _ (Option.some.inj hf).symm]
        exact xT_out hno
    · refine call_f_x_X2_column_X2_157_t (pc := 141) hτ57 (gKo ht48 (by decide)) rfl (Nat.le_of_ble_eq_true rfl) (Nat.le_of_ble_eq_true rfl) (Nat.le_of_ble_eq_true rfl) dX2_laid_141 ?_
      rw [kr _ (Option.some.inj hf).symm]
      exact xT_out hno
  have hf := xo_neg c0_ hf
  by_cases c1_ : x4 = 1
  · have hf := xo_pos c1_ hf
    refine xr_tsw_in (pc := 111) (v := 1) (off := 51) 162 dX2_laid_111 c1_ (by decide) (by decide +kernel) (by decide) ?_
    refine xr_aload_n (pc := 162) 0 dX2_laid_162 rfl rfl ?_
    obtain ⟨ht34, hf⟩ := xo_if hf
    rcases xo_bx hf with ⟨r35, τ35, hτ35, hf⟩ | ⟨q47, τ47, hτ47, hf⟩
    · refine call_f_x_X2_column_X2_157_r (pc := 163) hτ35 (gKo ht34 (by decide)) rfl (Nat.le_of_ble_eq_true rfl) (Nat.le_of_ble_eq_true rfl) (Nat.le_of_ble_eq_true rfl) dX2_laid_163 ?_
      refine xr_istore (pc := 166) (loc' := [(6, .int r35), (0, .ref x0), (2, .int x2), (4, .int x4)]) dX2_laid_166 (by decide) rfl ?_
      refine xr_aload_n (pc := 168) 1 dX2_laid_168 rfl rfl ?_
      obtain ⟨ht36, hf⟩ := xo_if hf
      rcases xo_bx hf with ⟨r37, τ37, hτ37, hf⟩ | ⟨q46, τ46, hτ46, hf⟩
      · refine call_f_x_X2_row_X2_163_r (pc := 169) hτ37 (gKo ht36 (by decide)) rfl (Nat.le_of_ble_eq_true rfl) (Nat.le_of_ble_eq_true rfl) (Nat.le_of_ble_eq_true rfl) dX2_laid_169 ?_
        refine xr_istore (pc := 172) (loc' := [(7, .int r37), (6, .int r35), (0, .ref x0), (2, .int x2), (4, .int x4)]) dX2_laid_172 (by decide) rfl ?_
        refine xr_aload_n (pc := 174) 2 dX2_laid_174 rfl rfl ?_
        obtain ⟨ht38, hf⟩ := xo_if hf
        obtain ⟨b39, hb39, hf⟩ := xo_bind hf
        refine yc_getRs (pc := 175) 3 6 306 (gKo ht38 (by decide)) (by decide) (by decide) (by decide) rfl rfl hb39 q394 (ys_eq rfl) rfl dX2_laid_175 ?_
        obtain ⟨ht40, hf⟩ := xo_if hf
        obtain ⟨b41, hb41, hf⟩ := xo_bind hf
        refine yc_getFsN (pc := 178) 2 6 206 (gKo ht40 (by decide)) (by decide) (by decide) (by decide) rfl rfl hb41 q274 (ys_eq rfl) rfl dX2_laid_178 ?_
        refine xr_iload (pc := 181) 1 dX2_laid_181 rfl ?_
        obtain ⟨ht42, hf⟩ := xo_if hf
        obtain ⟨hi_, hf⟩ := xo_if hf
        refine yc_aaldF (pc := 183) 105 (gKo ht42 (by decide)) (by decide) (by decide) rfl rfl hi_ dX2_laid_183 ?_
        refine xr_iload (pc := 184) 0 dX2_laid_184 rfl ?_
        refine xr_aload_n (pc := 186) 2 dX2_laid_186 rfl rfl ?_
        refine xr_iconst (pc := 187) dX2_laid_187 xci_0 ?_
        refine xr_bipush (pc := 188) dX2_laid_188 xcb_9 ?_
        rcases xo_bx hf with ⟨r43, τ43, hτ43, hf⟩ | ⟨q45, τ45, hτ45, hf⟩
        · refine call_f_x_X2_number_X2_96_r (pc := 190) hτ43 (gKo ht38 (by decide)) rfl (Nat.le_of_ble_eq_true rfl) (Nat.le_of_ble_eq_true rfl) (Nat.le_of_ble_eq_true rfl) dX2_laid_190 ?_
          obtain ⟨ht44, hf⟩ := xo_if hf
          obtain ⟨hi_, hf⟩ := xo_if hf
          refine yc_iast (pc := 193) ht44 hi_ dX2_laid_193 ?_
          refine xr_iconst (pc := 194) dX2_laid_194 xci_1 ?_
          rw [kr _ (Option.some.inj hf).symm]
          exact xV_ret (xr_zret (pc := 195) dX2_laid_195 rfl xz_1)
        · refine call_f_x_X2_number_X2_96_t (pc := 190) hτ45 (gKo ht38 (by decide)) rfl (Nat.le_of_ble_eq_true rfl) (Nat.le_of_ble_eq_true rfl) (Nat.le_of_ble_eq_true rfl) dX2_laid_190 ?_
          rw [kr _ (Option.some.inj hf).symm]
          exact xT_out hno
      · refine call_f_x_X2_row_X2_163_t (pc := 169) hτ46 (gKo ht36 (by decide)) rfl (Nat.le_of_ble_eq_true rfl) (Nat.le_of_ble_eq_true rfl) (Nat.le_of_ble_eq_true rfl) dX2_laid_169 ?_
        rw [kr _ (Option.some.inj hf).symm]
        exact xT_out hno
    · refine call_f_x_X2_column_X2_157_t (pc := 163) hτ47 (gKo ht34 (by decide)) rfl (Nat.le_of_ble_eq_true rfl) (Nat.le_of_ble_eq_true rfl) (Nat.le_of_ble_eq_true rfl) dX2_laid_163 ?_
      rw [kr _ (Option.some.inj hf).symm]
      exact xT_out hno
  have hf := xo_neg c1_ hf
  by_cases c2_ : x4 = 2
  · have hf := xo_pos c2_ hf
    refine xr_tsw_in (pc := 111) (v := 2) (off := 85) 196 dX2_laid_111 c2_ (by decide) (by decide +kernel) (by decide) ?_
    refine xr_aload_n (pc := 196) 0 dX2_laid_196 rfl rfl ?_
    obtain ⟨ht15, hf⟩ := xo_if hf
    rcases xo_bx hf with ⟨r16, τ16, hτ16, hf⟩ | ⟨q33, τ33, hτ33, hf⟩
    · refine call_f_x_X2_column_X2_157_r (pc := 197) hτ16 (gKo ht15 (by decide)) rfl (Nat.le_of_ble_eq_true rfl) (Nat.le_of_ble_eq_true rfl) (Nat.le_of_ble_eq_true rfl) dX2_laid_197 ?_
      refine xr_istore (pc := 200) (loc' := [(8, .int r16), (0, .ref x0), (2, .int x2), (4, .int x4)]) dX2_laid_200 (by decide) rfl ?_
      refine xr_aload_n (pc := 202) 1 dX2_laid_202 rfl rfl ?_
      obtain ⟨ht17, hf⟩ := xo_if hf
      rcases xo_bx hf with ⟨r18, τ18, hτ18, hf⟩ | ⟨q32, τ32, hτ32, hf⟩
      · refine call_f_x_X2_row_X2_163_r (pc := 203) hτ18 (gKo ht17 (by decide)) rfl (Nat.le_of_ble_eq_true rfl) (Nat.le_of_ble_eq_true rfl) (Nat.le_of_ble_eq_true rfl) dX2_laid_203 ?_
        refine xr_istore (pc := 206) (loc' := [(9, .int r18), (8, .int r16), (0, .ref x0), (2, .int x2), (4, .int x4)]) dX2_laid_206 (by decide) rfl ?_
        refine xr_aload_n (pc := 208) 2 dX2_laid_208 rfl rfl ?_
        obtain ⟨ht19, hf⟩ := xo_if hf
        obtain ⟨b20, hb20, hf⟩ := xo_bind hf
        refine yc_getRs (pc := 209) 3 6 306 (gKo ht19 (by decide)) (by decide) (by decide) (by decide) rfl rfl hb20 q394 (ys_eq rfl) rfl dX2_laid_209 ?_
        obtain ⟨ht21, hf⟩ := xo_if hf
        obtain ⟨b22, hb22, hf⟩ := xo_bind hf
        refine yc_getFsN (pc := 212) 2 7 207 (gKo ht21 (by decide)) (by decide) (by decide) (by decide) rfl rfl hb22 q278 (ys_eq rfl) rfl dX2_laid_212 ?_
        refine xr_iload (pc := 215) 1 dX2_laid_215 rfl ?_
        obtain ⟨ht23, hf⟩ := xo_if hf
        obtain ⟨hi_, hf⟩ := xo_if hf
        refine yc_aaldF (pc := 217) 105 (gKo ht23 (by decide)) (by decide) (by decide) rfl rfl hi_ dX2_laid_217 ?_
        refine xr_iload (pc := 218) 0 dX2_laid_218 rfl ?_
        obtain ⟨ht24, hf⟩ := xo_if hf
        obtain ⟨hi_, hf⟩ := xo_if hf
        refine yc_iald (pc := 220) (gKo ht24 (by decide)) hi_ dX2_laid_220 ?_
        refine xr_bipush (pc := 221) dX2_laid_221 xcb_9 ?_
        refine xr_icmp_ne (pc := 223) 236 dX2_laid_223 (by decide) (fun c_ => ?_) (fun c_ => ?_)
        · have hf := xo_pos c_ hf
          refine xr_aload_n (pc := 226) 2 dX2_laid_226 rfl rfl ?_
          refine xr_iconst (pc := 227) dX2_laid_227 xci_2 ?_
          refine xr_aload_n (pc := 228) 2 dX2_laid_228 rfl rfl ?_
          refine yc_getI (pc := 229) 3 3 303 (gKo ht19 (by decide)) (by decide) (by decide) (by decide) rfl rfl q391 (ys_eq rfl) rfl dX2_laid_229 ?_
          obtain ⟨r25, τ25, hτ25, hf⟩ := xo_bd hf
          refine call_f_c_X2_wrong_X2_47 (pc := 232) hτ25 (gKo ht19 (by decide)) rfl (Nat.le_of_ble_eq_true rfl) (Nat.le_of_ble_eq_true rfl) (Nat.le_of_ble_eq_true rfl) dX2_laid_232 ?_
          obtain ⟨ht26, hf⟩ := xo_if hf
          rw [kr _ (Option.some.inj hf).symm]
          exact yc_athrow (pc := 235) (gKo ht26 (by decide)) (by decide) (by decide) rfl dX2_laid_235 (xT_out hno)
        · have hf := xo_neg c_ hf
          refine xr_aload_n (pc := 236) 2 dX2_laid_236 rfl rfl ?_
          obtain ⟨b27, hb27, hf⟩ := xo_bind hf
          refine yc_getRs (pc := 237) 3 6 306 (gKo ht19 (by decide)) (by decide) (by decide) (by decide) rfl rfl hb27 q394 (ys_eq rfl) rfl dX2_laid_237 ?_
          obtain ⟨ht28, hf⟩ := xo_if hf
          obtain ⟨b29, hb29, hf⟩ := xo_bind hf
          refine yc_getFsN (pc := 240) 2 7 207 (gKo ht28 (by decide)) (by decide) (by decide) (by decide) rfl rfl hb29 q278 (ys_eq rfl) rfl dX2_laid_240 ?_
          refine xr_iload (pc := 243) 1 dX2_laid_243 rfl ?_
          obtain ⟨ht30, hf⟩ := xo_if hf
          obtain ⟨hi_, hf⟩ := xo_if hf
          refine yc_aaldF (pc := 245) 105 (gKo ht30 (by decide)) (by decide) (by decide) rfl rfl hi_ dX2_laid_245 ?_
          refine xr_iload (pc := 246) 0 dX2_laid_246 rfl ?_
          refine xr_dup2_11 (pc := 248) dX2_laid_248 rfl rfl ?_
          obtain ⟨ht31, hf⟩ := xo_if hf
          obtain ⟨hi_, hf⟩ := xo_if hf
          refine yc_iald (pc := 249) (gKo ht31 (by decide)) hi_ dX2_laid_249 ?_
          refine xr_iconst (pc := 250) dX2_laid_250 xci_1 ?_
          refine xr_iadd (pc := 251) dX2_laid_251 ?_
          obtain ⟨hi_, hf⟩ := xo_if hf
          refine yc_iast (pc := 252) ht31 hi_ dX2_laid_252 ?_
          refine xr_iconst (pc := 253) dX2_laid_253 xci_1 ?_
          rw [kr _ (Option.some.inj hf).symm]
          exact xV_ret (xr_zret (pc := 254) dX2_laid_254 rfl xz_1)
      · refine call_f_x_X2_row_X2_163_t (pc := 203) hτ32 (gKo ht17 (by decide)) rfl (Nat.le_of_ble_eq_true rfl) (Nat.le_of_ble_eq_true rfl) (Nat.le_of_ble_eq_true rfl) dX2_laid_203 ?_
        rw [kr _ (Option.some.inj hf).symm]
        exact xT_out hno
    · refine call_f_x_X2_column_X2_157_t (pc := 197) hτ33 (gKo ht15 (by decide)) rfl (Nat.le_of_ble_eq_true rfl) (Nat.le_of_ble_eq_true rfl) (Nat.le_of_ble_eq_true rfl) dX2_laid_197 ?_
      rw [kr _ (Option.some.inj hf).symm]
      exact xT_out hno
  have hf := xo_neg c2_ hf
  by_cases c3_ : x4 = 3
  · have hf := xo_pos c3_ hf
    refine xr_tsw_in (pc := 111) (v := 3) (off := 144) 255 dX2_laid_111 c3_ (by decide) (by decide +kernel) (by decide) ?_
    refine xr_aload_n (pc := 255) 0 dX2_laid_255 rfl rfl ?_
    refine xr_aload_n (pc := 256) 0 dX2_laid_256 rfl rfl ?_
    obtain ⟨ht3, hf⟩ := xo_if hf
    obtain ⟨b4, hb4, hf⟩ := xo_bind hf
    refine yc_getRs (pc := 257) 3 6 306 (gKo ht3 (by decide)) (by decide) (by decide) (by decide) rfl rfl hb4 q394 (ys_eq rfl) rfl dX2_laid_257 ?_
    obtain ⟨ht5, hf⟩ := xo_if hf
    obtain ⟨b6, hb6, hf⟩ := xo_bind hf
    refine yc_getFsN (pc := 260) 2 8 208 (gKo ht5 (by decide)) (by decide) (by decide) (by decide) rfl rfl hb6 q281 (ys_eq rfl) rfl dX2_laid_260 ?_
    obtain ⟨ht7, hf⟩ := xo_if hf
    obtain ⟨r8, τ8, hτ8, hf⟩ := xo_bd hf
    refine call_f_c_J2_size_X2_176 (pc := 263) hτ8 (gKo ht7 (by decide)) rfl (Nat.le_of_ble_eq_true rfl) (Nat.le_of_ble_eq_true rfl) (Nat.le_of_ble_eq_true rfl) dX2_laid_263 ?_
    refine xr_iconst (pc := 268) dX2_laid_268 xci_5 ?_
    refine xr_icmp_ne (pc := 269) 276 dX2_laid_269 (by decide) (fun c_ => ?_) (fun c_ => ?_)
    · have hf := xo_pos c_ hf
      refine xr_iconst (pc := 272) dX2_laid_272 xci_1 ?_
      refine xr_goto (pc := 273) 277 dX2_laid_273 (by decide) ?_
      refine xV_sub [0, 1] rfl ?_
      exact ok_Jc_X2_laid_277 hno hf kr
    · have hf := xo_neg c_ hf
      refine xr_iconst (pc := 276) dX2_laid_276 xci_0 ?_
      refine xV_sub [0, 1] rfl ?_
      exact ok_Jc_X2_laid_277 hno hf kr
  have hf := xo_neg c3_ hf
  refine xr_tsw_out (pc := 111) 287 dX2_laid_111 (xsw_out 0 3 [0, 1, 2, 3] (by decide +kernel) (List.forall_mem_cons.mpr ⟨c0_, List.forall_mem_cons.mpr ⟨c1_, List.forall_mem_cons.mpr ⟨c2_, List.forall_mem_cons.mpr ⟨c3_, List.forall_mem_nil _⟩⟩⟩⟩)) (by decide) ?_
  refine xr_iconst (pc := 287) dX2_laid_287 xci_0 ?_
  rw [kr _ (Option.some.inj hf).symm]
  exact xV_ret (xr_zret (pc := 288) dX2_laid_288 rfl xz_0)
def f_x_X2_laid (x0 : Nat) (x1 : Nat) (x2 : Int32) (τ : CS) : Option ((Int32 ⊕ Nat) × CS) :=
  if gK τ.1 x1 = 19 then
  xbd (f_c_J6_hashCode τ.1 x1 τ.2) fun r2 τ2 =>
  if r2 = (-787803846) then
  xbd (f_c_J6_equals τ.1 x1 (gA τ.1 0 105) τ2) fun r61 τ61 =>
  if r61 = 0 then
  Jc_X2_laid_109 x0 x2 (-1) (τ.1, τ61)
  else
  Jc_X2_laid_109 x0 x2 2 (τ.1, τ61)
  else
  if r2 = 3327733 then
  xbd (f_c_J6_equals τ.1 x1 (gA τ.1 0 106) τ2) fun r60 τ60 =>
  if r60 = 0 then
  Jc_X2_laid_109 x0 x2 (-1) (τ.1, τ60)
  else
  Jc_X2_laid_109 x0 x2 3 (τ.1, τ60)
  else
  if r2 = 3512136 then
  xbd (f_c_J6_equals τ.1 x1 (gA τ.1 0 103) τ2) fun r59 τ59 =>
  if r59 = 0 then
  Jc_X2_laid_109 x0 x2 (-1) (τ.1, τ59)
  else
  Jc_X2_laid_109 x0 x2 0 (τ.1, τ59)
  else
  if r2 = 3535999 then
  xbd (f_c_J6_equals τ.1 x1 (gA τ.1 0 104) τ2) fun r58 τ58 =>
  if r58 = 0 then
  Jc_X2_laid_109 x0 x2 (-1) (τ.1, τ58)
  else
  Jc_X2_laid_109 x0 x2 1 (τ.1, τ58)
  else
  Jc_X2_laid_109 x0 x2 (-1) (τ.1, τ2)
  else none
theorem ok_f_x_X2_laid {D : CD} {P : CP} {K : xK} (hno : xNoT K) {Z : (Option Value ⊕ Nat) × CS} {x0 : Nat} {x1 : Nat} {x2 : Int32} {τ : CS} {o_ : ((Int32 ⊕ Nat) × CS)} (hf : f_x_X2_laid x0 x1 x2 τ = some o_) (kr : ∀ r_ : ((Int32 ⊕ Nat) × CS), o_ = r_ → Z = (xzI r_.1, r_.2)) : xV (wC D P) K mX2_laid (xQX (wC D P) K Z) τ 0 [(0, .ref x0), (1, .ref x1), (2, .int x2)] [] := by
  unfold f_x_X2_laid at hf
  refine xr_aload_n (pc := 0) 1 dX2_laid_0 rfl rfl ?_
  refine xr_astore_n (pc := 1) (loc' := [(3, .ref x1), (0, .ref x0), (1, .ref x1), (2, .int x2)]) dX2_laid_1 rfl (by decide) rfl ?_
  refine xr_iconst (pc := 2) dX2_laid_2 xci_m1 ?_
  refine xr_istore (pc := 3) (loc' := [(4, .int (-1)), (3, .ref x1), (0, .ref x0), (1, .ref x1), (2, .int x2)]) dX2_laid_3 (by decide) rfl ?_
  refine xr_aload_n (pc := 5) 1 dX2_laid_5 rfl rfl ?_
  obtain ⟨ht1, hf⟩ := xo_if hf
  obtain ⟨r2, τ2, hτ2, hf⟩ := xo_bd hf
  refine call_f_c_J6_hashCode_X2_146 (pc := 6) hτ2 ht1 rfl (Nat.le_of_ble_eq_true rfl) (Nat.le_of_ble_eq_true rfl) (Nat.le_of_ble_eq_true rfl) dX2_laid_6 ?_
  by_cases c0_ : r2 = (-787803846)
  · have hf := xo_pos c0_ hf
    refine xr_lsw (pc := 9) (off := 73) 82 dX2_laid_9 (by decide) (by rw [c0_]; decide +kernel) (by decide) ?_
    refine xr_aload_n (pc := 82) 1 dX2_laid_82 rfl rfl ?_
    refine yc_ldcS (pc := 83) 5 (by decide) rfl rfl dX2_laid_83 ?_
    obtain ⟨r61, τ61, hτ61, hf⟩ := xo_bd hf
    refine call_f_c_J6_equals_X2_74 (pc := 85) hτ61 ht1 rfl (Nat.le_of_ble_eq_true rfl) (Nat.le_of_ble_eq_true rfl) (Nat.le_of_ble_eq_true rfl) dX2_laid_85 ?_
    refine xr_if_eq (pc := 88) 109 dX2_laid_88 (by decide) (fun c_ => ?_) (fun c_ => ?_)
    · have hf := xo_pos c_ hf
      refine xV_sub [2, 4, 0] rfl ?_
      exact ok_Jc_X2_laid_109 hno hf kr
    · have hf := xo_neg c_ hf
      refine xr_iconst (pc := 91) dX2_laid_91 xci_2 ?_
      refine xr_istore (pc := 92) (loc' := [(4, .int 2), (3, .ref x1), (0, .ref x0), (1, .ref x1), (2, .int x2)]) dX2_laid_92 (by decide) rfl ?_
      refine xr_goto (pc := 94) 109 dX2_laid_94 (by decide) ?_
      refine xV_sub [2, 4, 0] rfl ?_
      exact ok_Jc_X2_laid_109 hno hf kr
  have hf := xo_neg c0_ hf
  by_cases c1_ : r2 = 3327733
  · have hf := xo_pos c1_ hf
    refine xr_lsw (pc := 9) (off := 88) 97 dX2_laid_9 (by decide) (by rw [c1_]; decide +kernel) (by decide) ?_
    refine xr_aload_n (pc := 97) 1 dX2_laid_97 rfl rfl ?_
    refine yc_ldcS (pc := 98) 6 (by decide) rfl rfl dX2_laid_98 ?_
    obtain ⟨r60, τ60, hτ60, hf⟩ := xo_bd hf
    refine call_f_c_J6_equals_X2_74 (pc := 100) hτ60 ht1 rfl (Nat.le_of_ble_eq_true rfl) (Nat.le_of_ble_eq_true rfl) (Nat.le_of_ble_eq_true rfl) dX2_laid_100 ?_
    refine xr_if_eq (pc := 103) 109 dX2_laid_103 (by decide) (fun c_ => ?_) (fun c_ => ?_)
    · have hf := xo_pos c_ hf
      refine xV_sub [2, 4, 0] rfl ?_
      exact ok_Jc_X2_laid_109 hno hf kr
    · have hf := xo_neg c_ hf
      refine xr_iconst (pc := 106) dX2_laid_106 xci_3 ?_
      refine xr_istore (pc := 107) (loc' := [(4, .int 3), (3, .ref x1), (0, .ref x0), (1, .ref x1), (2, .int x2)]) dX2_laid_107 (by decide) rfl ?_
      refine xV_sub [2, 4, 0] rfl ?_
      exact ok_Jc_X2_laid_109 hno hf kr
  have hf := xo_neg c1_ hf
  by_cases c2_ : r2 = 3512136
  · have hf := xo_pos c2_ hf
    refine xr_lsw (pc := 9) (off := 43) 52 dX2_laid_9 (by decide) (by rw [c2_]; decide +kernel) (by decide) ?_
    refine xr_aload_n (pc := 52) 1 dX2_laid_52 rfl rfl ?_
    refine yc_ldcS (pc := 53) 3 (by decide) rfl rfl dX2_laid_53 ?_
    obtain ⟨r59, τ59, hτ59, hf⟩ := xo_bd hf
    refine call_f_c_J6_equals_X2_74 (pc := 55) hτ59 ht1 rfl (Nat.le_of_ble_eq_true rfl) (Nat.le_of_ble_eq_true rfl) (Nat.le_of_ble_eq_true rfl) dX2_laid_55 ?_
    refine xr_if_eq (pc := 58) 109 dX2_laid_58 (by decide) (fun c_ => ?_) (fun c_ => ?_)
    · have hf := xo_pos c_ hf
      refine xV_sub [2, 4, 0] rfl ?_
      exact ok_Jc_X2_laid_109 hno hf kr
    · have hf := xo_neg c_ hf
      refine xr_iconst (pc := 61) dX2_laid_61 xci_0 ?_
      refine xr_istore (pc := 62) (loc' := [(4, .int 0), (3, .ref x1), (0, .ref x0), (1, .ref x1), (2, .int x2)]) dX2_laid_62 (by decide) rfl ?_
      refine xr_goto (pc := 64) 109 dX2_laid_64 (by decide) ?_
      refine xV_sub [2, 4, 0] rfl ?_
      exact ok_Jc_X2_laid_109 hno hf kr
  have hf := xo_neg c2_ hf
  by_cases c3_ : r2 = 3535999
  · have hf := xo_pos c3_ hf
    refine xr_lsw (pc := 9) (off := 58) 67 dX2_laid_9 (by decide) (by rw [c3_]; decide +kernel) (by decide) ?_
    refine xr_aload_n (pc := 67) 1 dX2_laid_67 rfl rfl ?_
    refine yc_ldcS (pc := 68) 4 (by decide) rfl rfl dX2_laid_68 ?_
    obtain ⟨r58, τ58, hτ58, hf⟩ := xo_bd hf
    refine call_f_c_J6_equals_X2_74 (pc := 70) hτ58 ht1 rfl (Nat.le_of_ble_eq_true rfl) (Nat.le_of_ble_eq_true rfl) (Nat.le_of_ble_eq_true rfl) dX2_laid_70 ?_
    refine xr_if_eq (pc := 73) 109 dX2_laid_73 (by decide) (fun c_ => ?_) (fun c_ => ?_)
    · have hf := xo_pos c_ hf
      refine xV_sub [2, 4, 0] rfl ?_
      exact ok_Jc_X2_laid_109 hno hf kr
    · have hf := xo_neg c_ hf
      refine xr_iconst (pc := 76) dX2_laid_76 xci_1 ?_
      refine xr_istore (pc := 77) (loc' := [(4, .int 1), (3, .ref x1), (0, .ref x0), (1, .ref x1), (2, .int x2)]) dX2_laid_77 (by decide) rfl ?_
      refine xr_goto (pc := 79) 109 dX2_laid_79 (by decide) ?_
      refine xV_sub [2, 4, 0] rfl ?_
      exact ok_Jc_X2_laid_109 hno hf kr
  have hf := xo_neg c3_ hf
  refine xr_lsw (pc := 9) (off := 100) 109 dX2_laid_9 (by decide) (by show Op.lookupswitch.offset _ _ _ = _; rw [lv_osw (k := (-787803846)) c0_ (by decide), lv_osw (k := 3327733) c1_ (by decide), lv_osw (k := 3512136) c2_ (by decide), lv_osw (k := 3535999) c3_ (by decide)]; rfl) (by decide) ?_
  refine xV_sub [2, 4, 0] rfl ?_
  exact ok_Jc_X2_laid_109 hno hf kr
theorem met_f_x_X2_laid (l : Launch) {D : CD} {P : CP} {x0 : Nat} {x1 : Nat} {x2 : Int32} {τ : CS} {o_ : ((Int32 ⊕ Nat) × CS)} (hf : f_x_X2_laid x0 x1 x2 τ = some o_) : xMetX (wC D P) l yX2_laid (ws_ yX2_laid cX2_laid 10 (some .boolean)) 12 720 (grc τ.1) (grs τ.1) [.ref x0, .ref x1, .int x2] τ (xzI o_.1, o_.2) := 
  xMetX_of (by decide) (Nat.le_of_ble_eq_true rfl) KC_moved (RPC_of (g := τ.1) (c := τ.2)) (fun K _ _ _ hno => ok_f_x_X2_laid hno hf (fun _ h => by rw [h]))
def DSU (D : CD) (P : CP) (d : Nat) (f : Nat → CS → Option ((Nat ⊕ Nat) × CS)) : Prop := ∀ (l : Launch) (x0 : Nat) (τ : CS) (o_ : (Nat ⊕ Nat) × CS), f x0 τ = some o_ → xMetX (wC D P) l yX2_sum (ws_ yX2_sum cX2_sum 3 (some (.object "BentRiver$Value"))) (22 + 6 * d) (60 * (22 + 6 * d)) (grc τ.1) (grs τ.1) [.ref x0] τ (xzR o_.1, o_.2)
def DRA (D : CD) (P : CP) (d : Nat) (f : Nat → CS → Option ((Nat ⊕ Nat) × CS)) : Prop := ∀ (l : Launch) (x0 : Nat) (τ : CS) (o_ : (Nat ⊕ Nat) × CS), f x0 τ = some o_ → xMetX (wC D P) l yX2_atom (ws_ yX2_atom cX2_atom 3 (some (.object "BentRiver$Value"))) (20 + 6 * d) (60 * (20 + 6 * d)) (grc τ.1) (grs τ.1) [.ref x0] τ (xzR o_.1, o_.2)
theorem hd_f_x_X2_opens : yX2_opens.cls ≠ "java/lang/invoke/MethodHandle" ∧ yX2_opens.cls ≠ "java/lang/invoke/VarHandle" ∧ (parseMethodDescriptor yX2_opens.desc).map (fun d => d.parameters.length) = some 1 := by decide +kernel
theorem call_f_x_X2_opens_X2_245_r {D : CD} {P : CP} {K : xK} {M : xM} {Q : State → Prop} {τ τ1 : CS} {x0 : Nat} {x1 : Int32} {pc : Nat} {loc : List (Nat × Value)} {st : List Value} (hf : f_x_X2_opens x0 x1 τ = some (.inl (), τ1)) (hr : gK τ.1 x0 = 3) (ho : M.2.2.1 = RX2) (hfr : 2 ≤ M.2.2.2.1) (hlo : 81 ≤ M.2.2.2.2.1) (hcat : (st.map fun v => v.category).sum ≤ 8) (d : decode M.1 pc = .ok (.invokevirtual 245, 3)) (k : xV (wC D P) K M Q τ1 (pc + 3) loc st) : xV (wC D P) K M Q τ pc loc (.int x1 :: .ref x0 :: st) :=
  yc_callVX (g := τ.1) (c := τ.2) (Z := (.inl none, τ1)) (As := [.int x1]) (rest := st) (met_f_x_X2_opens K.2.1 hf) (lw_V q1036 q1038 qs27 q179 q1039) ⟨rfl, hd_f_x_X2_opens⟩ ho hfr hlo rfl hr (by decide) (by decide) rfl rfl hcat d (yx_ret (v := none) k) yx_noT
theorem call_f_x_X2_opens_X2_245_t {D : CD} {P : CP} {K : xK} {M : xM} {Q : State → Prop} {τ τ1 : CS} {x0 : Nat} {x1 : Int32} {pc : Nat} {loc : List (Nat × Value)} {st : List Value} {q : Nat} (hf : f_x_X2_opens x0 x1 τ = some (.inr q, τ1)) (hr : gK τ.1 x0 = 3) (ho : M.2.2.1 = RX2) (hfr : 2 ≤ M.2.2.2.1) (hlo : 81 ≤ M.2.2.2.2.1) (hcat : (st.map fun v => v.category).sum ≤ 8) (d : decode M.1 pc = .ok (.invokevirtual 245, 3)) (k : xT (wC D P) K M Q τ1 pc loc q) : xV (wC D P) K M Q τ pc loc (.int x1 :: .ref x0 :: st) :=
  yc_callVX (g := τ.1) (c := τ.2) (Z := (.inr q, τ1)) (As := [.int x1]) (rest := st) (met_f_x_X2_opens K.2.1 hf) (lw_V q1036 q1038 qs27 q179 q1039) ⟨rfl, hd_f_x_X2_opens⟩ ho hfr hlo rfl hr (by decide) (by decide) rfl rfl hcat d yx_noR (yx_thr k)
theorem hd_f_x_X2_sum : yX2_sum.cls ≠ "java/lang/invoke/MethodHandle" ∧ yX2_sum.cls ≠ "java/lang/invoke/VarHandle" ∧ (parseMethodDescriptor yX2_sum.desc).map (fun d => d.parameters.length) = some 0 := by decide +kernel
theorem call_p_su_X2_217_r {D : CD} {P : CP} {K : xK} {M : xM} {Q : State → Prop} {τ τ1 : CS} {x0 d_ r : Nat} {f_ : Nat → CS → Option ((Nat ⊕ Nat) × CS)} {pc : Nat} {loc : List (Nat × Value)} {st : List Value} (H : DSU D P d_ f_) (hf : f_ x0 τ = some (.inl r, τ1)) (hr : gK τ.1 x0 = 3) (ho : M.2.2.1 = RX2) (hfr : 22 + 6 * d_ + 1 ≤ M.2.2.2.1) (hlo : 60 * (22 + 6 * d_) + 60 ≤ M.2.2.2.2.1) (hcat : (st.map fun v => v.category).sum ≤ 8) (d : decode M.1 pc = .ok (.invokevirtual 217, 3)) (k : xV (wC D P) K M Q τ1 (pc + 3) loc (.ref r :: st)) : xV (wC D P) K M Q τ pc loc (.ref x0 :: st) :=
  yc_callVX (g := τ.1) (c := τ.2) (Z := (.inl (some (.ref r)), τ1)) (As := []) (rest := st) (H K.2.1 _ _ _ hf) (lw_V q979 q981 qs23 q179 q982) ⟨rfl, hd_f_x_X2_sum⟩ ho hfr (by omega) rfl hr (by decide) (by decide) rfl rfl hcat d (yx_ret (v := some (.ref r)) k) yx_noT
theorem call_p_su_X2_217_t {D : CD} {P : CP} {K : xK} {M : xM} {Q : State → Prop} {τ τ1 : CS} {x0 d_ r : Nat} {f_ : Nat → CS → Option ((Nat ⊕ Nat) × CS)} {pc : Nat} {loc : List (Nat × Value)} {st : List Value} (H : DSU D P d_ f_) (hf : f_ x0 τ = some (.inr r, τ1)) (hr : gK τ.1 x0 = 3) (ho : M.2.2.1 = RX2) (hfr : 22 + 6 * d_ + 1 ≤ M.2.2.2.1) (hlo : 60 * (22 + 6 * d_) + 60 ≤ M.2.2.2.2.1) (hcat : (st.map fun v => v.category).sum ≤ 8) (d : decode M.1 pc = .ok (.invokevirtual 217, 3)) (k : xT (wC D P) K M Q τ1 pc loc r) : xV (wC D P) K M Q τ pc loc (.ref x0 :: st) :=
  yc_callVX (g := τ.1) (c := τ.2) (Z := (.inr r, τ1)) (As := []) (rest := st) (H K.2.1 _ _ _ hf) (lw_V q979 q981 qs23 q179 q982) ⟨rfl, hd_f_x_X2_sum⟩ ho hfr (by omega) rfl hr (by decide) (by decide) rfl rfl hcat d yx_noR (yx_thr k)
theorem hd_f_x_X2_must : yX2_must.cls ≠ "java/lang/invoke/MethodHandle" ∧ yX2_must.cls ≠ "java/lang/invoke/VarHandle" ∧ (parseMethodDescriptor yX2_must.desc).map (fun d => d.parameters.length) = some 1 := by decide +kernel
theorem call_f_x_X2_must_X2_127_r {D : CD} {P : CP} {K : xK} {M : xM} {Q : State → Prop} {τ τ1 : CS} {x0 : Nat} {x1 : Int32} {pc : Nat} {loc : List (Nat × Value)} {st : List Value} (hf : f_x_X2_must x0 x1 τ = some (.inl (), τ1)) (hr : gK τ.1 x0 = 3) (ho : M.2.2.1 = RX2) (hfr : 3 ≤ M.2.2.2.1) (hlo : 141 ≤ M.2.2.2.2.1) (hcat : (st.map fun v => v.category).sum ≤ 8) (d : decode M.1 pc = .ok (.invokevirtual 127, 3)) (k : xV (wC D P) K M Q τ1 (pc + 3) loc st) : xV (wC D P) K M Q τ pc loc (.int x1 :: .ref x0 :: st) :=
  yc_callVX (g := τ.1) (c := τ.2) (Z := (.inl none, τ1)) (As := [.int x1]) (rest := st) (met_f_x_X2_must K.2.1 hf) (lw_V q722 q724 qs12 q179 q725) ⟨rfl, hd_f_x_X2_must⟩ ho hfr hlo rfl hr (by decide) (by decide) rfl rfl hcat d (yx_ret (v := none) k) yx_noT
theorem call_f_x_X2_must_X2_127_t {D : CD} {P : CP} {K : xK} {M : xM} {Q : State → Prop} {τ τ1 : CS} {x0 : Nat} {x1 : Int32} {pc : Nat} {loc : List (Nat × Value)} {st : List Value} {q : Nat} (hf : f_x_X2_must x0 x1 τ = some (.inr q, τ1)) (hr : gK τ.1 x0 = 3) (ho : M.2.2.1 = RX2) (hfr : 3 ≤ M.2.2.2.1) (hlo : 141 ≤ M.2.2.2.2.1) (hcat : (st.map fun v => v.category).sum ≤ 8) (d : decode M.1 pc = .ok (.invokevirtual 127, 3)) (k : xT (wC D P) K M Q τ1 pc loc q) : xV (wC D P) K M Q τ pc loc (.int x1 :: .ref x0 :: st) :=
  yc_callVX (g := τ.1) (c := τ.2) (Z := (.inr q, τ1)) (As := [.int x1]) (rest := st) (met_f_x_X2_must K.2.1 hf) (lw_V q722 q724 qs12 q179 q725) ⟨rfl, hd_f_x_X2_must⟩ ho hfr hlo rfl hr (by decide) (by decide) rfl rfl hcat d yx_noR (yx_thr k)
theorem hd_f_a_X10_init : yX10_init.cls ≠ "java/lang/invoke/MethodHandle" ∧ yX10_init.cls ≠ "java/lang/invoke/VarHandle" ∧ (parseMethodDescriptor yX10_init.desc).map (fun d => d.parameters.length) = some 3 := by decide +kernel
theorem call_f_a_X10_init_X2_250 {D : CD} {P : CP} {K : xK} {M : xM} {Q : State → Prop} {τ τ1 : CS} {x0 : Nat} {x1 : Int32} {x2 : Nat} {x3 : Nat} {pc : Nat} {loc : List (Nat × Value)} {st : List Value} (hf : f_a_X10_init x0 x1 x2 x3 τ = some τ1) (ho : M.2.2.1 = RX2) (hfr : 3 ≤ M.2.2.2.1) (hlo : 143 ≤ M.2.2.2.2.1) (hcat : (st.map fun v => v.category).sum ≤ 8) (d : decode M.1 pc = .ok (.invokespecial 250, 3)) (k : xV (wC D P) K M Q τ1 (pc + 3) loc st) : xV (wC D P) K M Q τ pc loc (.ref x3 :: .ref x2 :: .int x1 :: .ref x0 :: st) :=
  yc_callI (g := τ.1) (c := τ.2) (g1 := τ1.1) (c1 := τ1.2) (As := [.int x1, .ref x2, .ref x3]) (rest := st) (met_f_a_X10_init K.2.1 hf) (lw_meth q1044) q1042 q1043 q201 rfl hd_f_a_X10_init ho hfr hlo rfl rfl hcat d k
abbrev mX2_within (d_ : Nat) : xM := (cX2_within, 4, RX2, (23 + 6 * d_), (60 * (23 + 6 * d_)), (some (.object "BentRiver$Value")), "within")
def Jc_X2_within_77 (su_ : Nat → CS → Option ((Nat ⊕ Nat) × CS)) (x0 : Nat) (x3 : Nat) (τ : CS) : Option ((Nat ⊕ Nat) × CS) :=
  if gT τ.1 x0 = 3 then
  xbx (f_x_X2_must x0 41 τ) (fun r7 τ7 =>
  if gT τ7.1 x0 = 3 then
  some ((.inl x3, (τ7.1, uI τ7.2 304 x0 ((cI τ7.2 304 x0) - 1))))
  else none) (fun q9 τ9 => some ((.inr q9, τ9)))
  else none
theorem ok_Jc_X2_within_77 {D : CD} {P : CP} {K : xK} (hno : xNoT K) {d_ : Nat} {su_ : Nat → CS → Option ((Nat ⊕ Nat) × CS)} (Hsu : DSU D P d_ su_) {Z : (Option Value ⊕ Nat) × CS} {x0 : Nat} {x3 : Nat} {τ : CS} {o_ : ((Nat ⊕ Nat) × CS)} (hf : Jc_X2_within_77 su_ x0 x3 τ = some o_) (kr : ∀ r_ : ((Nat ⊕ Nat) × CS), o_ = r_ → Z = (xzR r_.1, r_.2)) : xV (wC D P) K (mX2_within d_) (xQX (wC D P) K Z) τ 77 [(0, .ref x0), (3, .ref x3)] [] := by
  unfold Jc_X2_within_77 at hf
  refine xr_aload_n (pc := 77) 0 dX2_within_77 rfl rfl ?_
  refine xr_bipush (pc := 78) dX2_within_78 xcb_41 ?_
  obtain ⟨ht6, hf⟩ := xo_if hf
  rcases xo_bx hf with ⟨r7, τ7, hτ7, hf⟩ | ⟨q9, τ9, hτ9, hf⟩
  · refine call_f_x_X2_must_X2_127_r (pc := 80) hτ7 (gKo ht6 (by decide)) rfl (by show 3 ≤ 23 + 6 * d_; omega) (by show 141 ≤ 60 * (23 + 6 * d_); omega) (Nat.le_of_ble_eq_true rfl) dX2_within_80 ?_
    refine xr_aload_n (pc := 83) 0 dX2_within_83 rfl rfl ?_
    refine xr_dup (pc := 84) dX2_within_84 rfl ?_
    obtain ⟨ht8, hf⟩ := xo_if hf
    refine yc_getI (pc := 85) 3 4 304 (gKo ht8 (by decide)) (by decide) (by decide) (by decide) rfl rfl q392 (ys_eq rfl) rfl dX2_within_85 ?_
    refine xr_iconst (pc := 88) dX2_within_88 xci_1 ?_
    refine xr_isub (pc := 89) dX2_within_89 ?_
    refine yc_putI (pc := 90) 3 4 304 ht8 (by decide) (by decide) (by decide) rfl rfl rfl (ty := .int) (by decide +kernel) rfl rfl q392 (ys_eq rfl) rfl dX2_within_90 ?_
    refine xr_aload_n (pc := 93) 1 dX2_within_93 rfl rfl ?_
    rw [kr _ (Option.some.inj hf).symm]
    exact xV_ret (xr_aret (pc := 94) dX2_within_94 rfl (Or.inl ⟨_, rfl⟩))
  · refine call_f_x_X2_must_X2_127_t (pc := 80) hτ9 (gKo ht6 (by decide)) rfl (by show 3 ≤ 23 + 6 * d_; omega) (by show 141 ≤ 60 * (23 + 6 * d_); omega) (Nat.le_of_ble_eq_true rfl) dX2_within_80 ?_
    rw [kr _ (Option.some.inj hf).symm]
    exact xT_out hno
def Jc_X2_within_68 (su_ : Nat → CS → Option ((Nat ⊕ Nat) × CS)) (x0 : Nat) (x2 : Nat) (s0 : Int32) (s1 : Nat) (s2 : Nat) (τ : CS) : Option ((Nat ⊕ Nat) × CS) :=
  if gT τ.1 x0 = 3 then
  xbx (su_ x0 τ) (fun r14 τ14 =>
  (f_a_X10_init s1 s0 x2 r14 τ14).bind fun τ15 =>
  Jc_X2_within_77 su_ x0 s2 τ15) (fun q16 τ16 => some ((.inr q16, τ16)))
  else none
theorem ok_Jc_X2_within_68 {D : CD} {P : CP} {K : xK} (hno : xNoT K) {d_ : Nat} {su_ : Nat → CS → Option ((Nat ⊕ Nat) × CS)} (Hsu : DSU D P d_ su_) {Z : (Option Value ⊕ Nat) × CS} {x0 : Nat} {x2 : Nat} {s0 : Int32} {s1 : Nat} {s2 : Nat} {τ : CS} {o_ : ((Nat ⊕ Nat) × CS)} (hf : Jc_X2_within_68 su_ x0 x2 s0 s1 s2 τ = some o_) (kr : ∀ r_ : ((Nat ⊕ Nat) × CS), o_ = r_ → Z = (xzR r_.1, r_.2)) : xV (wC D P) K (mX2_within d_) (xQX (wC D P) K Z) τ 68 [(0, .ref x0), (2, .ref x2)] [.int s0, .ref s1, .ref s2] := by
  unfold Jc_X2_within_68 at hf
  refine xr_aload_n (pc := 68) 1 dX2_within_68 rfl rfl ?_
  refine xr_aload_n (pc := 69) 0 dX2_within_69 rfl rfl ?_
  obtain ⟨ht13, hf⟩ := xo_if hf
  rcases xo_bx hf with ⟨r14, τ14, hτ14, hf⟩ | ⟨q16, τ16, hτ16, hf⟩
  · refine call_p_su_X2_217_r (pc := 70) Hsu hτ14 (gKo ht13 (by decide)) rfl (by show 22 + 6 * d_ + 1 ≤ 23 + 6 * d_; omega) (by show 60 * (22 + 6 * d_) + 60 ≤ 60 * (23 + 6 * d_); omega) (Nat.le_of_ble_eq_true rfl) dX2_within_70 ?_
    obtain ⟨τ15, hτ15, hf⟩ := xo_bind hf
    refine call_f_a_X10_init_X2_250 (pc := 73) hτ15 rfl (by show 3 ≤ 23 + 6 * d_; omega) (by show 143 ≤ 60 * (23 + 6 * d_); omega) (Nat.le_of_ble_eq_true rfl) dX2_within_73 ?_
    refine xr_astore_n (pc := 76) (loc' := [(3, .ref s2), (0, .ref x0), (2, .ref x2)]) dX2_within_76 rfl (by show 3 < 4; decide) rfl ?_
    refine xV_sub [1, 0] rfl ?_
    exact ok_Jc_X2_within_77 hno Hsu hf kr
  · refine call_p_su_X2_217_t (pc := 70) Hsu hτ16 (gKo ht13 (by decide)) rfl (by show 22 + 6 * d_ + 1 ≤ 23 + 6 * d_; omega) (by show 60 * (22 + 6 * d_) + 60 ≤ 60 * (23 + 6 * d_); omega) (Nat.le_of_ble_eq_true rfl) dX2_within_70 ?_
    rw [kr _ (Option.some.inj hf).symm]
    exact xT_out hno
def f_x_X2_within (su_ : Nat → CS → Option ((Nat ⊕ Nat) × CS)) (x0 : Nat) (x1 : Int32) (τ : CS) : Option ((Nat ⊕ Nat) × CS) :=
  if gT τ.1 x0 = 3 then
  xbd (f_c_X2_here τ.1 x0 τ.2) fun r2 τ2 =>
  if r2 = 40 then
  xbx (f_x_X2_opens x0 (cI τ2 302 x0) (τ.1, τ2)) (fun r3 τ3 =>
  if gT τ3.1 x0 = 3 then
  xbx (su_ x0 (τ3.1, uI τ3.2 302 x0 ((cI τ3.2 302 x0) + 1))) (fun r5 τ5 =>
  if x1 ≤ 0 then
  Jc_X2_within_77 su_ x0 r5 τ5
  else
  if gT τ5.1 x0 = 3 then
  xbx (f_x_X2_must x0 44 τ5) (fun r11 τ11 =>
  xbd (aNew 9 τ11) fun r12 τ12 =>
  if x1 = 2 then
  Jc_X2_within_68 su_ x0 r5 1 r12 r12 τ12
  else
  Jc_X2_within_68 su_ x0 r5 0 r12 r12 τ12) (fun q17 τ17 => some ((.inr q17, τ17)))
  else none) (fun q18 τ18 => some ((.inr q18, τ18)))
  else none) (fun q19 τ19 => some ((.inr q19, τ19)))
  else
  xbd (f_c_X2_wrong τ.1 x0 1 (cI τ2 302 x0) τ2) fun r20 τ20 =>
  if gT τ.1 r20 = 4 then
  some ((.inr r20, (τ.1, τ20)))
  else none
  else none
theorem ok_f_x_X2_within {D : CD} {P : CP} {K : xK} (hno : xNoT K) {d_ : Nat} {su_ : Nat → CS → Option ((Nat ⊕ Nat) × CS)} (Hsu : DSU D P d_ su_) {Z : (Option Value ⊕ Nat) × CS} {x0 : Nat} {x1 : Int32} {τ : CS} {o_ : ((Nat ⊕ Nat) × CS)} (hf : f_x_X2_within su_ x0 x1 τ = some o_) (kr : ∀ r_ : ((Nat ⊕ Nat) × CS), o_ = r_ → Z = (xzR r_.1, r_.2)) : xV (wC D P) K (mX2_within d_) (xQX (wC D P) K Z) τ 0 [(0, .ref x0), (1, .int x1)] [] := by
  unfold f_x_X2_within at hf
  refine xr_aload_n (pc := 0) 0 dX2_within_0 rfl rfl ?_
  obtain ⟨ht1, hf⟩ := xo_if hf
  obtain ⟨r2, τ2, hτ2, hf⟩ := xo_bd hf
  refine call_f_c_X2_here_X2_43 (pc := 1) hτ2 (gKo ht1 (by decide)) rfl (by show 2 ≤ 23 + 6 * d_; omega) (by show 80 ≤ 60 * (23 + 6 * d_); omega) (Nat.le_of_ble_eq_true rfl) dX2_within_1 ?_
  refine xr_bipush (pc := 4) dX2_within_4 xcb_40 ?_
  refine xr_icmp_eq (pc := 6) 19 dX2_within_6 (by decide) (fun c_ => ?_) (fun c_ => ?_)
  · have hf := xo_pos c_ hf
    refine xr_aload_n (pc := 19) 0 dX2_within_19 rfl rfl ?_
    refine xr_aload_n (pc := 20) 0 dX2_within_20 rfl rfl ?_
    refine yc_getI (pc := 21) 3 2 302 (gKo ht1 (by decide)) (by decide) (by decide) (by decide) rfl rfl q390 (ys_eq rfl) rfl dX2_within_21 ?_
    rcases xo_bx hf with ⟨r3, τ3, hτ3, hf⟩ | ⟨q19, τ19, hτ19, hf⟩
    · refine call_f_x_X2_opens_X2_245_r (pc := 24) hτ3 (gKo ht1 (by decide)) rfl (by show 2 ≤ 23 + 6 * d_; omega) (by show 81 ≤ 60 * (23 + 6 * d_); omega) (Nat.le_of_ble_eq_true rfl) dX2_within_24 ?_
      refine xr_aload_n (pc := 27) 0 dX2_within_27 rfl rfl ?_
      refine xr_dup (pc := 28) dX2_within_28 rfl ?_
      obtain ⟨ht4, hf⟩ := xo_if hf
      refine yc_getI (pc := 29) 3 2 302 (gKo ht4 (by decide)) (by decide) (by decide) (by decide) rfl rfl q390 (ys_eq rfl) rfl dX2_within_29 ?_
      refine xr_iconst (pc := 32) dX2_within_32 xci_1 ?_
      refine xr_iadd (pc := 33) dX2_within_33 ?_
      refine yc_putI (pc := 34) 3 2 302 ht4 (by decide) (by decide) (by decide) rfl rfl rfl (ty := .int) (by decide +kernel) rfl rfl q390 (ys_eq rfl) rfl dX2_within_34 ?_
      refine xr_aload_n (pc := 37) 0 dX2_within_37 rfl rfl ?_
      rcases xo_bx hf with ⟨r5, τ5, hτ5, hf⟩ | ⟨q18, τ18, hτ18, hf⟩
      · refine call_p_su_X2_217_r (pc := 38) Hsu hτ5 (gKo ht4 (by decide)) rfl (by show 22 + 6 * d_ + 1 ≤ 23 + 6 * d_; omega) (by show 60 * (22 + 6 * d_) + 60 ≤ 60 * (23 + 6 * d_); omega) (Nat.le_of_ble_eq_true rfl) dX2_within_38 ?_
        refine xr_astore_n (pc := 41) (loc' := [(2, .ref r5), (0, .ref x0), (1, .int x1)]) dX2_within_41 rfl (by show 2 < 4; decide) rfl ?_
        refine xr_aload_n (pc := 42) 0 dX2_within_42 rfl rfl ?_
        refine xr_astore_n (pc := 43) (loc' := [(3, .ref r5), (2, .ref r5), (0, .ref x0), (1, .int x1)]) dX2_within_43 rfl (by show 3 < 4; decide) rfl ?_
        refine xr_iload_n (pc := 44) 3 dX2_within_44 rfl rfl ?_
        refine xr_if_le (pc := 45) 77 dX2_within_45 (by decide) (fun c_ => ?_) (fun c_ => ?_)
        · have hf := xo_pos c_ hf
          refine xV_sub [2, 0] rfl ?_
          exact ok_Jc_X2_within_77 hno Hsu hf kr
        · have hf := xo_neg c_ hf
          refine xr_aload_n (pc := 48) 2 dX2_within_48 rfl rfl ?_
          refine xr_bipush (pc := 49) dX2_within_49 xcb_44 ?_
          obtain ⟨ht10, hf⟩ := xo_if hf
          rcases xo_bx hf with ⟨r11, τ11, hτ11, hf⟩ | ⟨q17, τ17, hτ17, hf⟩
          · refine call_f_x_X2_must_X2_127_r (pc := 51) hτ11 (gKo ht10 (by decide)) rfl (by show 3 ≤ 23 + 6 * d_; omega) (by show 141 ≤ 60 * (23 + 6 * d_); omega) (Nat.le_of_ble_eq_true rfl) dX2_within_51 ?_
            obtain ⟨r12, τ12, hτ12, hf⟩ := xo_bd hf
            refine yc_aNew (pc := 54) 9 (by decide) (by decide) q1040 q1041 q201 hτ12 rfl dX2_within_54 ?_
            refine xr_dup (pc := 57) dX2_within_57 rfl ?_
            refine xr_iload_n (pc := 58) 3 dX2_within_58 rfl rfl ?_
            refine xr_iconst (pc := 59) dX2_within_59 xci_2 ?_
            refine xr_icmp_ne (pc := 60) 67 dX2_within_60 (by decide) (fun c_ => ?_) (fun c_ => ?_)
            · have hf := xo_pos c_ hf
              refine xr_iconst (pc := 63) dX2_within_63 xci_1 ?_
              refine xr_goto (pc := 64) 68 dX2_within_64 (by decide) ?_
              refine xV_sub [2, 1] rfl ?_
              exact ok_Jc_X2_within_68 hno Hsu hf kr
            · have hf := xo_neg c_ hf
              refine xr_iconst (pc := 67) dX2_within_67 xci_0 ?_
              refine xV_sub [2, 1] rfl ?_
              exact ok_Jc_X2_within_68 hno Hsu hf kr
          · refine call_f_x_X2_must_X2_127_t (pc := 51) hτ17 (gKo ht10 (by decide)) rfl (by show 3 ≤ 23 + 6 * d_; omega) (by show 141 ≤ 60 * (23 + 6 * d_); omega) (Nat.le_of_ble_eq_true rfl) dX2_within_51 ?_
            rw [kr _ (Option.some.inj hf).symm]
            exact xT_out hno
      · refine call_p_su_X2_217_t (pc := 38) Hsu hτ18 (gKo ht4 (by decide)) rfl (by show 22 + 6 * d_ + 1 ≤ 23 + 6 * d_; omega) (by show 60 * (22 + 6 * d_) + 60 ≤ 60 * (23 + 6 * d_); omega) (Nat.le_of_ble_eq_true rfl) dX2_within_38 ?_
        rw [kr _ (Option.some.inj hf).symm]
        exact xT_out hno
    · refine call_f_x_X2_opens_X2_245_t (pc := 24) hτ19 (gKo ht1 (by decide)) rfl (by show 2 ≤ 23 + 6 * d_; omega) (by show 81 ≤ 60 * (23 + 6 * d_); omega) (Nat.le_of_ble_eq_true rfl) dX2_within_24 ?_
      rw [kr _ (Option.some.inj hf).symm]
      exact xT_out hno
  · have hf := xo_neg c_ hf
    refine xr_aload_n (pc := 9) 0 dX2_within_9 rfl rfl ?_
    refine xr_iconst (pc := 10) dX2_within_10 xci_1 ?_
    refine xr_aload_n (pc := 11) 0 dX2_within_11 rfl rfl ?_
    refine yc_getI (pc := 12) 3 2 302 (gKo ht1 (by decide)) (by decide) (by decide) (by decide) rfl rfl q390 (ys_eq rfl) rfl dX2_within_12 ?_
    obtain ⟨r20, τ20, hτ20, hf⟩ := xo_bd hf
    refine call_f_c_X2_wrong_X2_47 (pc := 15) hτ20 (gKo ht1 (by decide)) rfl (by show 1 ≤ 23 + 6 * d_; omega) (by show 22 ≤ 60 * (23 + 6 * d_); omega) (Nat.le_of_ble_eq_true rfl) dX2_within_15 ?_
    obtain ⟨ht21, hf⟩ := xo_if hf
    rw [kr _ (Option.some.inj hf).symm]
    exact yc_athrow (pc := 18) (gKo ht21 (by decide)) (by decide) (by decide) rfl dX2_within_18 (xT_out hno)
theorem met_f_x_X2_within (l : Launch) {D : CD} {P : CP} {d_ : Nat} {su_ : Nat → CS → Option ((Nat ⊕ Nat) × CS)} (Hsu : DSU D P d_ su_) {x0 : Nat} {x1 : Int32} {τ : CS} {o_ : ((Nat ⊕ Nat) × CS)} (hf : f_x_X2_within su_ x0 x1 τ = some o_) : xMetX (wC D P) l yX2_within (ws_ yX2_within cX2_within 4 (some (.object "BentRiver$Value"))) (23 + 6 * d_) (60 * (23 + 6 * d_)) (grc τ.1) (grs τ.1) [.ref x0, .int x1] τ (xzR o_.1, o_.2) := 
  xMetX_of (by decide) (Nat.le_of_ble_eq_true rfl) KC_moved (RPC_of (g := τ.1) (c := τ.2)) (fun K _ _ _ hno => ok_f_x_X2_within hno Hsu hf (fun _ h => by rw [h]))
theorem hd_f_x_X2_atom : yX2_atom.cls ≠ "java/lang/invoke/MethodHandle" ∧ yX2_atom.cls ≠ "java/lang/invoke/VarHandle" ∧ (parseMethodDescriptor yX2_atom.desc).map (fun d => d.parameters.length) = some 0 := by decide +kernel
theorem call_p_ra_X2_242_r {D : CD} {P : CP} {K : xK} {M : xM} {Q : State → Prop} {τ τ1 : CS} {x0 d_ r : Nat} {f_ : Nat → CS → Option ((Nat ⊕ Nat) × CS)} {pc : Nat} {loc : List (Nat × Value)} {st : List Value} (H : DRA D P d_ f_) (hf : f_ x0 τ = some (.inl r, τ1)) (hr : gK τ.1 x0 = 3) (ho : M.2.2.1 = RX2) (hfr : 20 + 6 * d_ + 1 ≤ M.2.2.2.1) (hlo : 60 * (20 + 6 * d_) + 60 ≤ M.2.2.2.2.1) (hcat : (st.map fun v => v.category).sum ≤ 8) (d : decode M.1 pc = .ok (.invokevirtual 242, 3)) (k : xV (wC D P) K M Q τ1 (pc + 3) loc (.ref r :: st)) : xV (wC D P) K M Q τ pc loc (.ref x0 :: st) :=
  yc_callVX (g := τ.1) (c := τ.2) (Z := (.inl (some (.ref r)), τ1)) (As := []) (rest := st) (H K.2.1 _ _ _ hf) (lw_V q1028 q1030 qs25 q179 q1031) ⟨rfl, hd_f_x_X2_atom⟩ ho hfr (by omega) rfl hr (by decide) (by decide) rfl rfl hcat d (yx_ret (v := some (.ref r)) k) yx_noT
theorem call_p_ra_X2_242_t {D : CD} {P : CP} {K : xK} {M : xM} {Q : State → Prop} {τ τ1 : CS} {x0 d_ r : Nat} {f_ : Nat → CS → Option ((Nat ⊕ Nat) × CS)} {pc : Nat} {loc : List (Nat × Value)} {st : List Value} (H : DRA D P d_ f_) (hf : f_ x0 τ = some (.inr r, τ1)) (hr : gK τ.1 x0 = 3) (ho : M.2.2.1 = RX2) (hfr : 20 + 6 * d_ + 1 ≤ M.2.2.2.1) (hlo : 60 * (20 + 6 * d_) + 60 ≤ M.2.2.2.2.1) (hcat : (st.map fun v => v.category).sum ≤ 8) (d : decode M.1 pc = .ok (.invokevirtual 242, 3)) (k : xT (wC D P) K M Q τ1 pc loc r) : xV (wC D P) K M Q τ pc loc (.ref x0 :: st) :=
  yc_callVX (g := τ.1) (c := τ.2) (Z := (.inr r, τ1)) (As := []) (rest := st) (H K.2.1 _ _ _ hf) (lw_V q1028 q1030 qs25 q179 q1031) ⟨rfl, hd_f_x_X2_atom⟩ ho hfr (by omega) rfl hr (by decide) (by decide) rfl rfl hcat d yx_noR (yx_thr k)
theorem hd_f_a_X13_init : yX13_init.cls ≠ "java/lang/invoke/MethodHandle" ∧ yX13_init.cls ≠ "java/lang/invoke/VarHandle" ∧ (parseMethodDescriptor yX13_init.desc).map (fun d => d.parameters.length) = some 3 := by decide +kernel
theorem call_f_a_X13_init_X2_324 {D : CD} {P : CP} {K : xK} {M : xM} {Q : State → Prop} {τ τ1 : CS} {x0 : Nat} {x1 : Nat} {x2 : Int32} {x3 : Nat} {pc : Nat} {loc : List (Nat × Value)} {st : List Value} (hf : f_a_X13_init x0 x1 x2 x3 τ = some τ1) (ho : M.2.2.1 = RX2) (hfr : 3 ≤ M.2.2.2.1) (hlo : 143 ≤ M.2.2.2.2.1) (hcat : (st.map fun v => v.category).sum ≤ 8) (d : decode M.1 pc = .ok (.invokespecial 324, 3)) (k : xV (wC D P) K M Q τ1 (pc + 3) loc st) : xV (wC D P) K M Q τ pc loc (.ref x3 :: .int x2 :: .ref x1 :: .ref x0 :: st) :=
  yc_callI (g := τ.1) (c := τ.2) (g1 := τ1.1) (c1 := τ1.2) (As := [.ref x1, .int x2, .ref x3]) (rest := st) (met_f_a_X13_init K.2.1 hf) (lw_meth q1092) q1090 q1091 q204 rfl hd_f_a_X13_init ho hfr hlo rfl rfl hcat d k
abbrev mX2_looked (d_ : Nat) : xM := (cX2_looked, 3, RX2, (23 + 6 * d_), (60 * (23 + 6 * d_)), (some (.object "BentRiver$Value")), "looked")
def f_x_X2_looked (ra_ : Nat → CS → Option ((Nat ⊕ Nat) × CS)) (x0 : Nat) (x1 : Int32) (τ : CS) : Option ((Nat ⊕ Nat) × CS) :=
  if gT τ.1 x0 = 3 then
  xbx (f_x_X2_opens x0 (cI τ.2 303 x0) τ) (fun r2 τ2 =>
  xbd (aNew 12 τ2) fun r3 τ3 =>
  if gT τ3.1 x0 = 3 then
  (gR τ3.1 307 x0).bind fun b5 =>
  xbx (ra_ x0 τ3) (fun r6 τ6 =>
  (f_a_X13_init r3 b5 x1 r6 τ6).bind fun τ7 =>
  if gT τ7.1 x0 = 3 then
  some ((.inl r3, (τ7.1, uI τ7.2 304 x0 ((cI τ7.2 304 x0) - 1))))
  else none) (fun q9 τ9 => some ((.inr q9, τ9)))
  else none) (fun q10 τ10 => some ((.inr q10, τ10)))
  else none
theorem ok_f_x_X2_looked {D : CD} {P : CP} {K : xK} (hno : xNoT K) {d_ : Nat} {ra_ : Nat → CS → Option ((Nat ⊕ Nat) × CS)} (Hra : DRA D P d_ ra_) {Z : (Option Value ⊕ Nat) × CS} {x0 : Nat} {x1 : Int32} {τ : CS} {o_ : ((Nat ⊕ Nat) × CS)} (hf : f_x_X2_looked ra_ x0 x1 τ = some o_) (kr : ∀ r_ : ((Nat ⊕ Nat) × CS), o_ = r_ → Z = (xzR r_.1, r_.2)) : xV (wC D P) K (mX2_looked d_) (xQX (wC D P) K Z) τ 0 [(0, .ref x0), (1, .int x1)] [] := by
  unfold f_x_X2_looked at hf
  refine xr_aload_n (pc := 0) 0 dX2_looked_0 rfl rfl ?_
  refine xr_aload_n (pc := 1) 0 dX2_looked_1 rfl rfl ?_
  obtain ⟨ht1, hf⟩ := xo_if hf
  refine yc_getI (pc := 2) 3 3 303 (gKo ht1 (by decide)) (by decide) (by decide) (by decide) rfl rfl q391 (ys_eq rfl) rfl dX2_looked_2 ?_
  rcases xo_bx hf with ⟨r2, τ2, hτ2, hf⟩ | ⟨q10, τ10, hτ10, hf⟩
  · refine call_f_x_X2_opens_X2_245_r (pc := 5) hτ2 (gKo ht1 (by decide)) rfl (by show 2 ≤ 23 + 6 * d_; omega) (by show 81 ≤ 60 * (23 + 6 * d_); omega) (Nat.le_of_ble_eq_true rfl) dX2_looked_5 ?_
    obtain ⟨r3, τ3, hτ3, hf⟩ := xo_bd hf
    refine yc_aNew (pc := 8) 12 (by decide) (by decide) q1088 q1089 q204 hτ3 rfl dX2_looked_8 ?_
    refine xr_dup (pc := 11) dX2_looked_11 rfl ?_
    refine xr_aload_n (pc := 12) 0 dX2_looked_12 rfl rfl ?_
    obtain ⟨ht4, hf⟩ := xo_if hf
    obtain ⟨b5, hb5, hf⟩ := xo_bind hf
    refine yc_getFs (pc := 13) 3 7 307 (gKo ht4 (by decide)) (by decide) (by decide) (by decide) rfl rfl hb5 q395 (ys_eq rfl) rfl dX2_looked_13 ?_
    refine xr_iload_n (pc := 16) 1 dX2_looked_16 rfl rfl ?_
    refine xr_aload_n (pc := 17) 0 dX2_looked_17 rfl rfl ?_
    rcases xo_bx hf with ⟨r6, τ6, hτ6, hf⟩ | ⟨q9, τ9, hτ9, hf⟩
    · refine call_p_ra_X2_242_r (pc := 18) Hra hτ6 (gKo ht4 (by decide)) rfl (by show 20 + 6 * d_ + 1 ≤ 23 + 6 * d_; omega) (by show 60 * (20 + 6 * d_) + 60 ≤ 60 * (23 + 6 * d_); omega) (Nat.le_of_ble_eq_true rfl) dX2_looked_18 ?_
      obtain ⟨τ7, hτ7, hf⟩ := xo_bind hf
      refine call_f_a_X13_init_X2_324 (pc := 21) hτ7 rfl (by show 3 ≤ 23 + 6 * d_; omega) (by show 143 ≤ 60 * (23 + 6 * d_); omega) (Nat.le_of_ble_eq_true rfl) dX2_looked_21 ?_
      refine xr_astore_n (pc := 24) (loc' := [(2, .ref r3), (0, .ref x0), (1, .int x1)]) dX2_looked_24 rfl (by show 2 < 3; decide) rfl ?_
      refine xr_aload_n (pc := 25) 1 dX2_looked_25 rfl rfl ?_
      refine xr_dup (pc := 26) dX2_looked_26 rfl ?_
      obtain ⟨ht8, hf⟩ := xo_if hf
      refine yc_getI (pc := 27) 3 4 304 (gKo ht8 (by decide)) (by decide) (by decide) (by decide) rfl rfl q392 (ys_eq rfl) rfl dX2_looked_27 ?_
      refine xr_iconst (pc := 30) dX2_looked_30 xci_1 ?_
      refine xr_isub (pc := 31) dX2_looked_31 ?_
      refine yc_putI (pc := 32) 3 4 304 ht8 (by decide) (by decide) (by decide) rfl rfl rfl (ty := .int) (by decide +kernel) rfl rfl q392 (ys_eq rfl) rfl dX2_looked_32 ?_
      refine xr_aload_n (pc := 35) 0 dX2_looked_35 rfl rfl ?_
      rw [kr _ (Option.some.inj hf).symm]
      exact xV_ret (xr_aret (pc := 36) dX2_looked_36 rfl (Or.inl ⟨_, rfl⟩))
    · refine call_p_ra_X2_242_t (pc := 18) Hra hτ9 (gKo ht4 (by decide)) rfl (by show 20 + 6 * d_ + 1 ≤ 23 + 6 * d_; omega) (by show 60 * (20 + 6 * d_) + 60 ≤ 60 * (23 + 6 * d_); omega) (Nat.le_of_ble_eq_true rfl) dX2_looked_18 ?_
      rw [kr _ (Option.some.inj hf).symm]
      exact xT_out hno
  · refine call_f_x_X2_opens_X2_245_t (pc := 5) hτ10 (gKo ht1 (by decide)) rfl (by show 2 ≤ 23 + 6 * d_; omega) (by show 81 ≤ 60 * (23 + 6 * d_); omega) (Nat.le_of_ble_eq_true rfl) dX2_looked_5 ?_
    rw [kr _ (Option.some.inj hf).symm]
    exact xT_out hno
theorem met_f_x_X2_looked (l : Launch) {D : CD} {P : CP} {d_ : Nat} {ra_ : Nat → CS → Option ((Nat ⊕ Nat) × CS)} (Hra : DRA D P d_ ra_) {x0 : Nat} {x1 : Int32} {τ : CS} {o_ : ((Nat ⊕ Nat) × CS)} (hf : f_x_X2_looked ra_ x0 x1 τ = some o_) : xMetX (wC D P) l yX2_looked (ws_ yX2_looked cX2_looked 3 (some (.object "BentRiver$Value"))) (23 + 6 * d_) (60 * (23 + 6 * d_)) (grc τ.1) (grs τ.1) [.ref x0, .int x1] τ (xzR o_.1, o_.2) := 
  xMetX_of (by decide) (Nat.le_of_ble_eq_true rfl) KC_moved (RPC_of (g := τ.1) (c := τ.2)) (fun K _ _ _ hno => ok_f_x_X2_looked hno Hra hf (fun _ h => by rw [h]))
theorem hd_f_x_X2_within : yX2_within.cls ≠ "java/lang/invoke/MethodHandle" ∧ yX2_within.cls ≠ "java/lang/invoke/VarHandle" ∧ (parseMethodDescriptor yX2_within.desc).map (fun d => d.parameters.length) = some 1 := by decide +kernel
theorem call_f_x_X2_within_X2_253_r {D : CD} {P : CP} {K : xK} {M : xM} {Q : State → Prop} {τ τ1 : CS} {x0 : Nat} {x1 : Int32} {pc : Nat} {loc : List (Nat × Value)} {st : List Value} {d_ : Nat} {su_ : Nat → CS → Option ((Nat ⊕ Nat) × CS)} (Hsu : DSU D P d_ su_) {r : Nat} (hf : f_x_X2_within su_ x0 x1 τ = some (.inl r, τ1)) (hr : gK τ.1 x0 = 3) (ho : M.2.2.1 = RX2) (hfr : 23 + 6 * d_ + 1 ≤ M.2.2.2.1) (hlo : 23 + 60 * (23 + 6 * d_) ≤ M.2.2.2.2.1) (hcat : (st.map fun v => v.category).sum ≤ 8) (d : decode M.1 pc = .ok (.invokevirtual 253, 3)) (k : xV (wC D P) K M Q τ1 (pc + 3) loc (.ref r :: st)) : xV (wC D P) K M Q τ pc loc (.int x1 :: .ref x0 :: st) :=
  yc_callVX (g := τ.1) (c := τ.2) (Z := (.inl (some (.ref r)), τ1)) (As := [.int x1]) (rest := st) (met_f_x_X2_within K.2.1 Hsu hf) (lw_V q1032 q1034 qs26 q179 q1035) ⟨rfl, hd_f_x_X2_within⟩ ho hfr hlo rfl hr (by decide) (by decide) rfl rfl hcat d (yx_ret (v := some (.ref r)) k) yx_noT
theorem call_f_x_X2_within_X2_253_t {D : CD} {P : CP} {K : xK} {M : xM} {Q : State → Prop} {τ τ1 : CS} {x0 : Nat} {x1 : Int32} {pc : Nat} {loc : List (Nat × Value)} {st : List Value} {d_ : Nat} {su_ : Nat → CS → Option ((Nat ⊕ Nat) × CS)} (Hsu : DSU D P d_ su_) {q : Nat} (hf : f_x_X2_within su_ x0 x1 τ = some (.inr q, τ1)) (hr : gK τ.1 x0 = 3) (ho : M.2.2.1 = RX2) (hfr : 23 + 6 * d_ + 1 ≤ M.2.2.2.1) (hlo : 23 + 60 * (23 + 6 * d_) ≤ M.2.2.2.2.1) (hcat : (st.map fun v => v.category).sum ≤ 8) (d : decode M.1 pc = .ok (.invokevirtual 253, 3)) (k : xT (wC D P) K M Q τ1 pc loc q) : xV (wC D P) K M Q τ pc loc (.int x1 :: .ref x0 :: st) :=
  yc_callVX (g := τ.1) (c := τ.2) (Z := (.inr q, τ1)) (As := [.int x1]) (rest := st) (met_f_x_X2_within K.2.1 Hsu hf) (lw_V q1032 q1034 qs26 q179 q1035) ⟨rfl, hd_f_x_X2_within⟩ ho hfr hlo rfl hr (by decide) (by decide) rfl rfl hcat d yx_noR (yx_thr k)
theorem hd_f_x_X2_looked : yX2_looked.cls ≠ "java/lang/invoke/MethodHandle" ∧ yX2_looked.cls ≠ "java/lang/invoke/VarHandle" ∧ (parseMethodDescriptor yX2_looked.desc).map (fun d => d.parameters.length) = some 1 := by decide +kernel
theorem call_f_x_X2_looked_X2_277_r {D : CD} {P : CP} {K : xK} {M : xM} {Q : State → Prop} {τ τ1 : CS} {x0 : Nat} {x1 : Int32} {pc : Nat} {loc : List (Nat × Value)} {st : List Value} {d_ : Nat} {ra_ : Nat → CS → Option ((Nat ⊕ Nat) × CS)} (Hra : DRA D P d_ ra_) {r : Nat} (hf : f_x_X2_looked ra_ x0 x1 τ = some (.inl r, τ1)) (hr : gK τ.1 x0 = 3) (ho : M.2.2.1 = RX2) (hfr : 23 + 6 * d_ + 1 ≤ M.2.2.2.1) (hlo : 22 + 60 * (23 + 6 * d_) ≤ M.2.2.2.2.1) (hcat : (st.map fun v => v.category).sum ≤ 8) (d : decode M.1 pc = .ok (.invokevirtual 277, 3)) (k : xV (wC D P) K M Q τ1 (pc + 3) loc (.ref r :: st)) : xV (wC D P) K M Q τ pc loc (.int x1 :: .ref x0 :: st) :=
  yc_callVX (g := τ.1) (c := τ.2) (Z := (.inl (some (.ref r)), τ1)) (As := [.int x1]) (rest := st) (met_f_x_X2_looked K.2.1 Hra hf) (lw_V q1084 q1086 qs28 q179 q1087) ⟨rfl, hd_f_x_X2_looked⟩ ho hfr hlo rfl hr (by decide) (by decide) rfl rfl hcat d (yx_ret (v := some (.ref r)) k) yx_noT
theorem call_f_x_X2_looked_X2_277_t {D : CD} {P : CP} {K : xK} {M : xM} {Q : State → Prop} {τ τ1 : CS} {x0 : Nat} {x1 : Int32} {pc : Nat} {loc : List (Nat × Value)} {st : List Value} {d_ : Nat} {ra_ : Nat → CS → Option ((Nat ⊕ Nat) × CS)} (Hra : DRA D P d_ ra_) {q : Nat} (hf : f_x_X2_looked ra_ x0 x1 τ = some (.inr q, τ1)) (hr : gK τ.1 x0 = 3) (ho : M.2.2.1 = RX2) (hfr : 23 + 6 * d_ + 1 ≤ M.2.2.2.1) (hlo : 22 + 60 * (23 + 6 * d_) ≤ M.2.2.2.2.1) (hcat : (st.map fun v => v.category).sum ≤ 8) (d : decode M.1 pc = .ok (.invokevirtual 277, 3)) (k : xT (wC D P) K M Q τ1 pc loc q) : xV (wC D P) K M Q τ pc loc (.int x1 :: .ref x0 :: st) :=
  yc_callVX (g := τ.1) (c := τ.2) (Z := (.inr q, τ1)) (As := [.int x1]) (rest := st) (met_f_x_X2_looked K.2.1 Hra hf) (lw_V q1084 q1086 qs28 q179 q1087) ⟨rfl, hd_f_x_X2_looked⟩ ho hfr hlo rfl hr (by decide) (by decide) rfl rfl hcat d yx_noR (yx_thr k)
theorem call_f_c_X0_has_X2_265 {D : CD} {P : CP} {K : xK} {M : xM} {Q : State → Prop} {g : CG} {c : CC} {x0 : Int32} {x1 : Int32} {pc : Nat} {loc : List (Nat × Value)} {st : List Value} {r : Int32} {c1 : CC} (hf : f_c_X0_has g x0 x1 c = some (r, c1)) (ho : M.2.2.1 = RX2) (hfr : 1 ≤ M.2.2.2.1) (hlo : 21 ≤ M.2.2.2.2.1) (hcat : (st.map fun v => v.category).sum ≤ 8) (d : decode M.1 pc = .ok (.invokestatic 265, 3)) (k : xV (wC D P) K M Q (g, c1) (pc + 3) loc (.int r :: st)) : xV (wC D P) K M Q (g, c) pc loc (.int x1 :: .int x0 :: st) :=
  yc_callSN (As := [.int x0, .int x1]) (rest := st) (met_f_c_X0_has K.2.1 hf) (lw_meth q1070) q1068 q1069 q174 hd_f_c_X0_has ho hfr hlo rfl rfl hcat d k
theorem hd_f_a_X12_init : yX12_init.cls ≠ "java/lang/invoke/MethodHandle" ∧ yX12_init.cls ≠ "java/lang/invoke/VarHandle" ∧ (parseMethodDescriptor yX12_init.desc).map (fun d => d.parameters.length) = some 1 := by decide +kernel
theorem call_f_a_X12_init_X2_271 {D : CD} {P : CP} {K : xK} {M : xM} {Q : State → Prop} {τ τ1 : CS} {x0 : Nat} {x1 : Int32} {pc : Nat} {loc : List (Nat × Value)} {st : List Value} (hf : f_a_X12_init x0 x1 τ = some τ1) (ho : M.2.2.1 = RX2) (hfr : 3 ≤ M.2.2.2.1) (hlo : 141 ≤ M.2.2.2.2.1) (hcat : (st.map fun v => v.category).sum ≤ 8) (d : decode M.1 pc = .ok (.invokespecial 271, 3)) (k : xV (wC D P) K M Q τ1 (pc + 3) loc st) : xV (wC D P) K M Q τ pc loc (.int x1 :: .ref x0 :: st) :=
  yc_callI (g := τ.1) (c := τ.2) (g1 := τ1.1) (c1 := τ1.2) (As := [.int x1]) (rest := st) (met_f_a_X12_init K.2.1 hf) (lw_meth q1075) q1073 q1074 q203 rfl hd_f_a_X12_init ho hfr hlo rfl rfl hcat d k
theorem hd_f_a_X11_init : yX11_init.cls ≠ "java/lang/invoke/MethodHandle" ∧ yX11_init.cls ≠ "java/lang/invoke/VarHandle" ∧ (parseMethodDescriptor yX11_init.desc).map (fun d => d.parameters.length) = some 1 := by decide +kernel
theorem call_f_a_X11_init_X2_259 {D : CD} {P : CP} {K : xK} {M : xM} {Q : State → Prop} {τ τ1 : CS} {x0 : Nat} {x1 : Int64} {pc : Nat} {loc : List (Nat × Value)} {st : List Value} (hf : f_a_X11_init x0 x1 τ = some τ1) (ho : M.2.2.1 = RX2) (hfr : 3 ≤ M.2.2.2.1) (hlo : 142 ≤ M.2.2.2.2.1) (hcat : (st.map fun v => v.category).sum ≤ 8) (d : decode M.1 pc = .ok (.invokespecial 259, 3)) (k : xV (wC D P) K M Q τ1 (pc + 3) loc st) : xV (wC D P) K M Q τ pc loc (.long x1 :: .ref x0 :: st) :=
  yc_callI (g := τ.1) (c := τ.2) (g1 := τ1.1) (c1 := τ1.2) (As := [.long x1]) (rest := st) (met_f_a_X11_init K.2.1 hf) (lw_meth q1060) q1058 q1059 q202 rfl hd_f_a_X11_init ho hfr hlo rfl rfl hcat d k
abbrev mX2_atom (d_ : Nat) : xM := (cX2_atom, 3, RX2, (26 + 6 * d_), (60 * (26 + 6 * d_)), (some (.object "BentRiver$Value")), "atom")
def Jc_X2_atom_143 (su_ : Nat → CS → Option ((Nat ⊕ Nat) × CS)) (ra_ : Nat → CS → Option ((Nat ⊕ Nat) × CS)) (x0 : Nat) (x1 : Nat) (τ : CS) : Option ((Nat ⊕ Nat) × CS) :=
  if gK τ.1 x1 = 19 then
  xbd (f_c_J6_equals τ.1 x1 (gA τ.1 0 115) τ.2) fun r18 τ18 =>
  if r18 = 0 then
  if gT τ.1 x0 = 3 then
  xbx (f_x_X2_within su_ x0 2 (τ.1, τ18)) (fun r20 τ20 =>
  some ((.inl r20, τ20))) (fun q21 τ21 => some ((.inr q21, τ21)))
  else none
  else
  if gT τ.1 x0 = 3 then
  xbx (f_x_X2_within su_ x0 1 (τ.1, τ18)) (fun r23 τ23 =>
  some ((.inl r23, τ23))) (fun q24 τ24 => some ((.inr q24, τ24)))
  else none
  else none
theorem ok_Jc_X2_atom_143 {D : CD} {P : CP} {K : xK} (hno : xNoT K) {d_ : Nat} {su_ : Nat → CS → Option ((Nat ⊕ Nat) × CS)} {ra_ : Nat → CS → Option ((Nat ⊕ Nat) × CS)} (Hsu : DSU D P d_ su_) (Hra : DRA D P d_ ra_) {Z : (Option Value ⊕ Nat) × CS} {x0 : Nat} {x1 : Nat} {τ : CS} {o_ : ((Nat ⊕ Nat) × CS)} (hf : Jc_X2_atom_143 su_ ra_ x0 x1 τ = some o_) (kr : ∀ r_ : ((Nat ⊕ Nat) × CS), o_ = r_ → Z = (xzR r_.1, r_.2)) : xV (wC D P) K (mX2_atom d_) (xQX (wC D P) K Z) τ 143 [(0, .ref x0), (1, .ref x1)] [] := by
  unfold Jc_X2_atom_143 at hf
  refine xr_aload_n (pc := 143) 0 dX2_atom_143 rfl rfl ?_
  refine xr_aload_n (pc := 144) 1 dX2_atom_144 rfl rfl ?_
  refine yc_ldcSw (pc := 145) 15 (by decide) rfl rfl dX2_atom_145 ?_
  obtain ⟨ht17, hf⟩ := xo_if hf
  obtain ⟨r18, τ18, hτ18, hf⟩ := xo_bd hf
  refine call_f_c_J6_equals_X2_74 (pc := 148) hτ18 ht17 rfl (by show 2 ≤ 26 + 6 * d_; omega) (by show 82 ≤ 60 * (26 + 6 * d_); omega) (Nat.le_of_ble_eq_true rfl) dX2_atom_148 ?_
  refine xr_if_eq (pc := 151) 158 dX2_atom_151 (by decide) (fun c_ => ?_) (fun c_ => ?_)
  · have hf := xo_pos c_ hf
    refine xr_iconst (pc := 158) dX2_atom_158 xci_2 ?_
    obtain ⟨ht19, hf⟩ := xo_if hf
    rcases xo_bx hf with ⟨r20, τ20, hτ20, hf⟩ | ⟨q21, τ21, hτ21, hf⟩
    · refine call_f_x_X2_within_X2_253_r (pc := 159) Hsu hτ20 (gKo ht19 (by decide)) rfl (by show 23 + 6 * d_ + 1 ≤ 26 + 6 * d_; omega) (by show 23 + 60 * (23 + 6 * d_) ≤ 60 * (26 + 6 * d_); omega) (Nat.le_of_ble_eq_true rfl) dX2_atom_159 ?_
      rw [kr _ (Option.some.inj hf).symm]
      exact xV_ret (xr_aret (pc := 162) dX2_atom_162 rfl (Or.inl ⟨_, rfl⟩))
    · refine call_f_x_X2_within_X2_253_t (pc := 159) Hsu hτ21 (gKo ht19 (by decide)) rfl (by show 23 + 6 * d_ + 1 ≤ 26 + 6 * d_; omega) (by show 23 + 60 * (23 + 6 * d_) ≤ 60 * (26 + 6 * d_); omega) (Nat.le_of_ble_eq_true rfl) dX2_atom_159 ?_
      rw [kr _ (Option.some.inj hf).symm]
      exact xT_out hno
  · have hf := xo_neg c_ hf
    refine xr_iconst (pc := 154) dX2_atom_154 xci_1 ?_
    refine xr_goto (pc := 155) 159 dX2_atom_155 (by decide) ?_
    obtain ⟨ht22, hf⟩ := xo_if hf
    rcases xo_bx hf with ⟨r23, τ23, hτ23, hf⟩ | ⟨q24, τ24, hτ24, hf⟩
    · refine call_f_x_X2_within_X2_253_r (pc := 159) Hsu hτ23 (gKo ht22 (by decide)) rfl (by show 23 + 6 * d_ + 1 ≤ 26 + 6 * d_; omega) (by show 23 + 60 * (23 + 6 * d_) ≤ 60 * (26 + 6 * d_); omega) (Nat.le_of_ble_eq_true rfl) dX2_atom_159 ?_
      rw [kr _ (Option.some.inj hf).symm]
      exact xV_ret (xr_aret (pc := 162) dX2_atom_162 rfl (Or.inl ⟨_, rfl⟩))
    · refine call_f_x_X2_within_X2_253_t (pc := 159) Hsu hτ24 (gKo ht22 (by decide)) rfl (by show 23 + 6 * d_ + 1 ≤ 26 + 6 * d_; omega) (by show 23 + 60 * (23 + 6 * d_) ≤ 60 * (26 + 6 * d_); omega) (Nat.le_of_ble_eq_true rfl) dX2_atom_159 ?_
      rw [kr _ (Option.some.inj hf).symm]
      exact xT_out hno
def Jc_X2_atom_101 (su_ : Nat → CS → Option ((Nat ⊕ Nat) × CS)) (ra_ : Nat → CS → Option ((Nat ⊕ Nat) × CS)) (x0 : Nat) (x1 : Nat) (s0 : Int32) (τ : CS) : Option ((Nat ⊕ Nat) × CS) :=
  if s0 = (-1) then
  if gK τ.1 x1 = 19 then
  xbd (f_c_J6_equals τ.1 x1 (gA τ.1 0 115) τ.2) fun r12 τ12 =>
  if r12 = 0 then
  xbd (f_c_J6_equals τ.1 x1 (gA τ.1 0 116) τ12) fun r13 τ13 =>
  if r13 = 0 then
  if gT τ.1 x0 = 3 then
  xbd (f_c_X2_wrong τ.1 x0 1 (cI τ13 303 x0) τ13) fun r15 τ15 =>
  if gT τ.1 r15 = 4 then
  some ((.inr r15, (τ.1, τ15)))
  else none
  else none
  else
  Jc_X2_atom_143 su_ ra_ x0 x1 (τ.1, τ13)
  else
  Jc_X2_atom_143 su_ ra_ x0 x1 (τ.1, τ12)
  else none
  else
  if gT τ.1 x0 = 3 then
  xbx (f_x_X2_looked ra_ x0 s0 τ) (fun r26 τ26 =>
  some ((.inl r26, τ26))) (fun q27 τ27 => some ((.inr q27, τ27)))
  else none
theorem ok_Jc_X2_atom_101 {D : CD} {P : CP} {K : xK} (hno : xNoT K) {d_ : Nat} {su_ : Nat → CS → Option ((Nat ⊕ Nat) × CS)} {ra_ : Nat → CS → Option ((Nat ⊕ Nat) × CS)} (Hsu : DSU D P d_ su_) (Hra : DRA D P d_ ra_) {Z : (Option Value ⊕ Nat) × CS} {x0 : Nat} {x1 : Nat} {s0 : Int32} {τ : CS} {o_ : ((Nat ⊕ Nat) × CS)} (hf : Jc_X2_atom_101 su_ ra_ x0 x1 s0 τ = some o_) (kr : ∀ r_ : ((Nat ⊕ Nat) × CS), o_ = r_ → Z = (xzR r_.1, r_.2)) : xV (wC D P) K (mX2_atom d_) (xQX (wC D P) K Z) τ 101 [(0, .ref x0), (1, .ref x1)] [.int s0] := by
  unfold Jc_X2_atom_101 at hf
  refine xr_istore_n (pc := 101) (loc' := [(2, .int s0), (0, .ref x0), (1, .ref x1)]) dX2_atom_101 rfl (by show 2 < 3; decide) rfl ?_
  refine xr_iload_n (pc := 102) 0 dX2_atom_102 rfl rfl ?_
  refine xr_iconst (pc := 103) dX2_atom_103 xci_m1 ?_
  refine xr_icmp_eq (pc := 104) 113 dX2_atom_104 (by decide) (fun c_ => ?_) (fun c_ => ?_)
  · have hf := xo_pos c_ hf
    refine xr_aload_n (pc := 113) 2 dX2_atom_113 rfl rfl ?_
    refine yc_ldcSw (pc := 114) 15 (by decide) rfl rfl dX2_atom_114 ?_
    obtain ⟨ht11, hf⟩ := xo_if hf
    obtain ⟨r12, τ12, hτ12, hf⟩ := xo_bd hf
    refine call_f_c_J6_equals_X2_74 (pc := 117) hτ12 ht11 rfl (by show 2 ≤ 26 + 6 * d_; omega) (by show 82 ≤ 60 * (26 + 6 * d_); omega) (Nat.le_of_ble_eq_true rfl) dX2_atom_117 ?_
    refine xr_if_ne (pc := 120) 143 dX2_atom_120 (by decide) (fun c_ => ?_) (fun c_ => ?_)
    · have hf := xo_pos c_ hf
      refine xr_aload_n (pc := 123) 2 dX2_atom_123 rfl rfl ?_
      refine yc_ldcSw (pc := 124) 16 (by decide) rfl rfl dX2_atom_124 ?_
      obtain ⟨r13, τ13, hτ13, hf⟩ := xo_bd hf
      refine call_f_c_J6_equals_X2_74 (pc := 127) hτ13 ht11 rfl (by show 2 ≤ 26 + 6 * d_; omega) (by show 82 ≤ 60 * (26 + 6 * d_); omega) (Nat.le_of_ble_eq_true rfl) dX2_atom_127 ?_
      refine xr_if_ne (pc := 130) 143 dX2_atom_130 (by decide) (fun c_ => ?_) (fun c_ => ?_)
      · have hf := xo_pos c_ hf
        refine xr_aload_n (pc := 133) 1 dX2_atom_133 rfl rfl ?_
        refine xr_iconst (pc := 134) dX2_atom_134 xci_1 ?_
        refine xr_aload_n (pc := 135) 1 dX2_atom_135 rfl rfl ?_
        obtain ⟨ht14, hf⟩ := xo_if hf
        refine yc_getI (pc := 136) 3 3 303 (gKo ht14 (by decide)) (by decide) (by decide) (by decide) rfl rfl q391 (ys_eq rfl) rfl dX2_atom_136 ?_
        obtain ⟨r15, τ15, hτ15, hf⟩ := xo_bd hf
        refine call_f_c_X2_wrong_X2_47 (pc := 139) hτ15 (gKo ht14 (by decide)) rfl (by show 1 ≤ 26 + 6 * d_; omega) (by show 22 ≤ 60 * (26 + 6 * d_); omega) (Nat.le_of_ble_eq_true rfl) dX2_atom_139 ?_
        obtain ⟨ht16, hf⟩ := xo_if hf
        rw [kr _ (Option.some.inj hf).symm]
        exact yc_athrow (pc := 142) (gKo ht16 (by decide)) (by decide) (by decide) rfl dX2_atom_142 (xT_out hno)
      · have hf := xo_neg c_ hf
        refine xV_sub [1, 2] rfl ?_
        exact ok_Jc_X2_atom_143 hno Hsu Hra hf kr
    · have hf := xo_neg c_ hf
      refine xV_sub [1, 2] rfl ?_
      exact ok_Jc_X2_atom_143 hno Hsu Hra hf kr
  · have hf := xo_neg c_ hf
    refine xr_aload_n (pc := 107) 1 dX2_atom_107 rfl rfl ?_
    refine xr_iload_n (pc := 108) 0 dX2_atom_108 rfl rfl ?_
    obtain ⟨ht25, hf⟩ := xo_if hf
    rcases xo_bx hf with ⟨r26, τ26, hτ26, hf⟩ | ⟨q27, τ27, hτ27, hf⟩
    · refine call_f_x_X2_looked_X2_277_r (pc := 109) Hra hτ26 (gKo ht25 (by decide)) rfl (by show 23 + 6 * d_ + 1 ≤ 26 + 6 * d_; omega) (by show 22 + 60 * (23 + 6 * d_) ≤ 60 * (26 + 6 * d_); omega) (Nat.le_of_ble_eq_true rfl) dX2_atom_109 ?_
      rw [kr _ (Option.some.inj hf).symm]
      exact xV_ret (xr_aret (pc := 112) dX2_atom_112 rfl (Or.inl ⟨_, rfl⟩))
    · refine call_f_x_X2_looked_X2_277_t (pc := 109) Hra hτ27 (gKo ht25 (by decide)) rfl (by show 23 + 6 * d_ + 1 ≤ 26 + 6 * d_; omega) (by show 22 + 60 * (23 + 6 * d_) ≤ 60 * (26 + 6 * d_); omega) (Nat.le_of_ble_eq_true rfl) dX2_atom_109 ?_
      rw [kr _ (Option.some.inj hf).symm]
      exact xT_out hno
def Jc_X2_atom_80 (su_ : Nat → CS → Option ((Nat ⊕ Nat) × CS)) (ra_ : Nat → CS → Option ((Nat ⊕ Nat) × CS)) (x0 : Nat) (x1 : Nat) (τ : CS) : Option ((Nat ⊕ Nat) × CS) :=
  if gT τ.1 x0 = 3 then
  if (cI τ.2 305 x0) = 261128 then
  xbd (f_c_X0_find τ.1 x1 (gA τ.1 0 2) τ.2) fun r10 τ10 =>
  Jc_X2_atom_101 su_ ra_ x0 x1 r10 (τ.1, τ10)
  else
  Jc_X2_atom_101 su_ ra_ x0 x1 (-1) τ
  else none
theorem ok_Jc_X2_atom_80 {D : CD} {P : CP} {K : xK} (hno : xNoT K) {d_ : Nat} {su_ : Nat → CS → Option ((Nat ⊕ Nat) × CS)} {ra_ : Nat → CS → Option ((Nat ⊕ Nat) × CS)} (Hsu : DSU D P d_ su_) (Hra : DRA D P d_ ra_) {Z : (Option Value ⊕ Nat) × CS} {x0 : Nat} {x1 : Nat} {τ : CS} {o_ : ((Nat ⊕ Nat) × CS)} (hf : Jc_X2_atom_80 su_ ra_ x0 x1 τ = some o_) (kr : ∀ r_ : ((Nat ⊕ Nat) × CS), o_ = r_ → Z = (xzR r_.1, r_.2)) : xV (wC D P) K (mX2_atom d_) (xQX (wC D P) K Z) τ 80 [(0, .ref x0), (1, .ref x1)] [] := by
  unfold Jc_X2_atom_80 at hf
  refine xr_aload_n (pc := 80) 0 dX2_atom_80 rfl rfl ?_
  obtain ⟨ht9, hf⟩ := xo_if hf
  refine yc_getI (pc := 81) 3 5 305 (gKo ht9 (by decide)) (by decide) (by decide) (by decide) rfl rfl q393 (ys_eq rfl) rfl dX2_atom_81 ?_
  refine xr_ldcw (pc := 84) q1081 dX2_atom_84 ?_
  refine xr_icmp_ne (pc := 87) 100 dX2_atom_87 (by decide) (fun c_ => ?_) (fun c_ => ?_)
  · have hf := xo_pos c_ hf
    refine xr_aload_n (pc := 90) 1 dX2_atom_90 rfl rfl ?_
    refine yc_getsN (pc := 91) 2 (by decide) (by decide) q1082 rfl rfl dX2_atom_91 ?_
    obtain ⟨r10, τ10, hτ10, hf⟩ := xo_bd hf
    refine call_f_c_X0_find_X2_82 (pc := 94) hτ10 rfl (by show 3 ≤ 26 + 6 * d_; omega) (by show 142 ≤ 60 * (26 + 6 * d_); omega) (Nat.le_of_ble_eq_true rfl) dX2_atom_94 ?_
    refine xr_goto (pc := 97) 101 dX2_atom_97 (by decide) ?_
    exact ok_Jc_X2_atom_101 hno Hsu Hra hf kr
  · have hf := xo_neg c_ hf
    refine xr_iconst (pc := 100) dX2_atom_100 xci_m1 ?_
    exact ok_Jc_X2_atom_101 hno Hsu Hra hf kr
def f_x_X2_atom (su_ : Nat → CS → Option ((Nat ⊕ Nat) × CS)) (ra_ : Nat → CS → Option ((Nat ⊕ Nat) × CS)) (x0 : Nat) (τ : CS) : Option ((Nat ⊕ Nat) × CS) :=
  if gT τ.1 x0 = 3 then
  xbd (f_c_X2_here τ.1 x0 τ.2) fun r2 τ2 =>
  if r2 = 40 then
  xbx (f_x_X2_within su_ x0 0 (τ.1, τ2)) (fun r3 τ3 =>
  some ((.inl r3, τ3))) (fun q4 τ4 => some ((.inr q4, τ4)))
  else
  xbd (f_c_X2_here τ.1 x0 τ2) fun r5 τ5 =>
  xbd (f_c_X0_isDigit τ.1 r5 τ5) fun r6 τ6 =>
  if r6 = 0 then
  xbx (f_x_X2_word_2 x0 (τ.1, τ6)) (fun r7 τ7 =>
  xbd (f_c_X0_find τ7.1 r7 (gA τ7.1 0 1) τ7.2) fun r8 τ8 =>
  if r8 = (-1) then
  Jc_X2_atom_80 su_ ra_ x0 r7 (τ7.1, τ8)
  else
  if gT τ7.1 x0 = 3 then
  xbd (f_c_X0_has τ7.1 (cI τ8 305 x0) r8 τ8) fun r29 τ29 =>
  if r29 = 0 then
  Jc_X2_atom_80 su_ ra_ x0 r7 (τ7.1, τ29)
  else
  xbd (aNew 11 (τ7.1, τ29)) fun r30 τ30 =>
  (f_a_X12_init r30 r8 τ30).bind fun τ31 =>
  some ((.inl r30, τ31))
  else none) (fun q32 τ32 => some ((.inr q32, τ32)))
  else
  xbd (aNew 10 (τ.1, τ6)) fun r33 τ33 =>
  if gT τ33.1 x0 = 3 then
  xbx (f_x_X2_number x0 0 9999 τ33) (fun r35 τ35 =>
  (f_a_X11_init r33 r35.toInt64 τ35).bind fun τ36 =>
  some ((.inl r33, τ36))) (fun q37 τ37 => some ((.inr q37, τ37)))
  else none
  else none
theorem ok_f_x_X2_atom {D : CD} {P : CP} {K : xK} (hno : xNoT K) {d_ : Nat} {su_ : Nat → CS → Option ((Nat ⊕ Nat) × CS)} {ra_ : Nat → CS → Option ((Nat ⊕ Nat) × CS)} (Hsu : DSU D P d_ su_) (Hra : DRA D P d_ ra_) {Z : (Option Value ⊕ Nat) × CS} {x0 : Nat} {τ : CS} {o_ : ((Nat ⊕ Nat) × CS)} (hf : f_x_X2_atom su_ ra_ x0 τ = some o_) (kr : ∀ r_ : ((Nat ⊕ Nat) × CS), o_ = r_ → Z = (xzR r_.1, r_.2)) : xV (wC D P) K (mX2_atom d_) (xQX (wC D P) K Z) τ 0 [(0, .ref x0)] [] := by
  unfold f_x_X2_atom at hf
  refine xr_aload_n (pc := 0) 0 dX2_atom_0 rfl rfl ?_
  obtain ⟨ht1, hf⟩ := xo_if hf
  obtain ⟨r2, τ2, hτ2, hf⟩ := xo_bd hf
  refine call_f_c_X2_here_X2_43 (pc := 1) hτ2 (gKo ht1 (by decide)) rfl (by show 2 ≤ 26 + 6 * d_; omega) (by show 80 ≤ 60 * (26 + 6 * d_); omega) (Nat.le_of_ble_eq_true rfl) dX2_atom_1 ?_
  refine xr_bipush (pc := 4) dX2_atom_4 xcb_40 ?_
  refine xr_icmp_ne (pc := 6) 15 dX2_atom_6 (by decide) (fun c_ => ?_) (fun c_ => ?_)
  · have hf := xo_pos c_ hf
    refine xr_aload_n (pc := 9) 0 dX2_atom_9 rfl rfl ?_
    refine xr_iconst (pc := 10) dX2_atom_10 xci_0 ?_
    rcases xo_bx hf with ⟨r3, τ3, hτ3, hf⟩ | ⟨q4, τ4, hτ4, hf⟩
    · refine call_f_x_X2_within_X2_253_r (pc := 11) Hsu hτ3 (gKo ht1 (by decide)) rfl (by show 23 + 6 * d_ + 1 ≤ 26 + 6 * d_; omega) (by show 23 + 60 * (23 + 6 * d_) ≤ 60 * (26 + 6 * d_); omega) (Nat.le_of_ble_eq_true rfl) dX2_atom_11 ?_
      rw [kr _ (Option.some.inj hf).symm]
      exact xV_ret (xr_aret (pc := 14) dX2_atom_14 rfl (Or.inl ⟨_, rfl⟩))
    · refine call_f_x_X2_within_X2_253_t (pc := 11) Hsu hτ4 (gKo ht1 (by decide)) rfl (by show 23 + 6 * d_ + 1 ≤ 26 + 6 * d_; omega) (by show 23 + 60 * (23 + 6 * d_) ≤ 60 * (26 + 6 * d_); omega) (Nat.le_of_ble_eq_true rfl) dX2_atom_11 ?_
      rw [kr _ (Option.some.inj hf).symm]
      exact xT_out hno
  · have hf := xo_neg c_ hf
    refine xr_aload_n (pc := 15) 0 dX2_atom_15 rfl rfl ?_
    obtain ⟨r5, τ5, hτ5, hf⟩ := xo_bd hf
    refine call_f_c_X2_here_X2_43 (pc := 16) hτ5 (gKo ht1 (by decide)) rfl (by show 2 ≤ 26 + 6 * d_; omega) (by show 80 ≤ 60 * (26 + 6 * d_); omega) (Nat.le_of_ble_eq_true rfl) dX2_atom_16 ?_
    obtain ⟨r6, τ6, hτ6, hf⟩ := xo_bd hf
    refine call_f_c_X0_isDigit_X2_55 (pc := 19) hτ6 rfl (by show 1 ≤ 26 + 6 * d_; omega) (by show 20 ≤ 60 * (26 + 6 * d_); omega) (Nat.le_of_ble_eq_true rfl) dX2_atom_19 ?_
    refine xr_if_eq (pc := 22) 42 dX2_atom_22 (by decide) (fun c_ => ?_) (fun c_ => ?_)
    · have hf := xo_pos c_ hf
      refine xr_aload_n (pc := 42) 0 dX2_atom_42 rfl rfl ?_
      rcases xo_bx hf with ⟨r7, τ7, hτ7, hf⟩ | ⟨q32, τ32, hτ32, hf⟩
      · refine call_f_x_X2_word_2_X2_70_r (pc := 43) hτ7 (gKo ht1 (by decide)) rfl (by show 9 ≤ 26 + 6 * d_; omega) (by show 502 ≤ 60 * (26 + 6 * d_); omega) (Nat.le_of_ble_eq_true rfl) dX2_atom_43 ?_
        refine xr_astore_n (pc := 46) (loc' := [(1, .ref r7), (0, .ref x0)]) dX2_atom_46 rfl (by show 1 < 3; decide) rfl ?_
        refine xr_aload_n (pc := 47) 0 dX2_atom_47 rfl rfl ?_
        refine yc_getsN (pc := 48) 1 (by decide) (by decide) q1066 rfl rfl dX2_atom_48 ?_
        obtain ⟨r8, τ8, hτ8, hf⟩ := xo_bd hf
        refine call_f_c_X0_find_X2_82 (pc := 51) hτ8 rfl (by show 3 ≤ 26 + 6 * d_; omega) (by show 142 ≤ 60 * (26 + 6 * d_); omega) (Nat.le_of_ble_eq_true rfl) dX2_atom_51 ?_
        refine xr_istore_n (pc := 54) (loc' := [(2, .int r8), (1, .ref r7), (0, .ref x0)]) dX2_atom_54 rfl (by show 2 < 3; decide) rfl ?_
        refine xr_iload_n (pc := 55) 0 dX2_atom_55 rfl rfl ?_
        refine xr_iconst (pc := 56) dX2_atom_56 xci_m1 ?_
        refine xr_icmp_eq (pc := 57) 80 dX2_atom_57 (by decide) (fun c_ => ?_) (fun c_ => ?_)
        · have hf := xo_pos c_ hf
          refine xV_sub [2, 1] rfl ?_
          exact ok_Jc_X2_atom_80 hno Hsu Hra hf kr
        · have hf := xo_neg c_ hf
          refine xr_aload_n (pc := 60) 2 dX2_atom_60 rfl rfl ?_
          obtain ⟨ht28, hf⟩ := xo_if hf
          refine yc_getI (pc := 61) 3 5 305 (gKo ht28 (by decide)) (by decide) (by decide) (by decide) rfl rfl q393 (ys_eq rfl) rfl dX2_atom_61 ?_
          refine xr_iload_n (pc := 64) 0 dX2_atom_64 rfl rfl ?_
          obtain ⟨r29, τ29, hτ29, hf⟩ := xo_bd hf
          refine call_f_c_X0_has_X2_265 (pc := 65) hτ29 rfl (by show 1 ≤ 26 + 6 * d_; omega) (by show 21 ≤ 60 * (26 + 6 * d_); omega) (Nat.le_of_ble_eq_true rfl) dX2_atom_65 ?_
          refine xr_if_eq (pc := 68) 80 dX2_atom_68 (by decide) (fun c_ => ?_) (fun c_ => ?_)
          · have hf := xo_pos c_ hf
            refine xV_sub [2, 1] rfl ?_
            exact ok_Jc_X2_atom_80 hno Hsu Hra hf kr
          · have hf := xo_neg c_ hf
            obtain ⟨r30, τ30, hτ30, hf⟩ := xo_bd hf
            refine yc_aNew (pc := 71) 11 (by decide) (by decide) q1071 q1072 q203 hτ30 rfl dX2_atom_71 ?_
            refine xr_dup (pc := 74) dX2_atom_74 rfl ?_
            refine xr_iload_n (pc := 75) 0 dX2_atom_75 rfl rfl ?_
            obtain ⟨τ31, hτ31, hf⟩ := xo_bind hf
            refine call_f_a_X12_init_X2_271 (pc := 76) hτ31 rfl (by show 3 ≤ 26 + 6 * d_; omega) (by show 141 ≤ 60 * (26 + 6 * d_); omega) (Nat.le_of_ble_eq_true rfl) dX2_atom_76 ?_
            rw [kr _ (Option.some.inj hf).symm]
            exact xV_ret (xr_aret (pc := 79) dX2_atom_79 rfl (Or.inl ⟨_, rfl⟩))
      · refine call_f_x_X2_word_2_X2_70_t (pc := 43) hτ32 (gKo ht1 (by decide)) rfl (by show 9 ≤ 26 + 6 * d_; omega) (by show 502 ≤ 60 * (26 + 6 * d_); omega) (Nat.le_of_ble_eq_true rfl) dX2_atom_43 ?_
        rw [kr _ (Option.some.inj hf).symm]
        exact xT_out hno
    · have hf := xo_neg c_ hf
      obtain ⟨r33, τ33, hτ33, hf⟩ := xo_bd hf
      refine yc_aNew (pc := 25) 10 (by decide) (by decide) q1056 q1057 q202 hτ33 rfl dX2_atom_25 ?_
      refine xr_dup (pc := 28) dX2_atom_28 rfl ?_
      refine xr_aload_n (pc := 29) 0 dX2_atom_29 rfl rfl ?_
      refine xr_iconst (pc := 30) dX2_atom_30 xci_0 ?_
      refine xr_sipush (pc := 31) dX2_atom_31 xcs_9999 ?_
      obtain ⟨ht34, hf⟩ := xo_if hf
      rcases xo_bx hf with ⟨r35, τ35, hτ35, hf⟩ | ⟨q37, τ37, hτ37, hf⟩
      · refine call_f_x_X2_number_X2_96_r (pc := 34) hτ35 (gKo ht34 (by decide)) rfl (by show 3 ≤ 26 + 6 * d_; omega) (by show 143 ≤ 60 * (26 + 6 * d_); omega) (Nat.le_of_ble_eq_true rfl) dX2_atom_34 ?_
        refine xr_i2l (pc := 37) dX2_atom_37 ?_
        obtain ⟨τ36, hτ36, hf⟩ := xo_bind hf
        refine call_f_a_X11_init_X2_259 (pc := 38) hτ36 rfl (by show 3 ≤ 26 + 6 * d_; omega) (by show 142 ≤ 60 * (26 + 6 * d_); omega) (Nat.le_of_ble_eq_true rfl) dX2_atom_38 ?_
        rw [kr _ (Option.some.inj hf).symm]
        exact xV_ret (xr_aret (pc := 41) dX2_atom_41 rfl (Or.inl ⟨_, rfl⟩))
      · refine call_f_x_X2_number_X2_96_t (pc := 34) hτ37 (gKo ht34 (by decide)) rfl (by show 3 ≤ 26 + 6 * d_; omega) (by show 143 ≤ 60 * (26 + 6 * d_); omega) (Nat.le_of_ble_eq_true rfl) dX2_atom_34 ?_
        rw [kr _ (Option.some.inj hf).symm]
        exact xT_out hno
theorem met_f_x_X2_atom (l : Launch) {D : CD} {P : CP} {d_ : Nat} {su_ : Nat → CS → Option ((Nat ⊕ Nat) × CS)} {ra_ : Nat → CS → Option ((Nat ⊕ Nat) × CS)} (Hsu : DSU D P d_ su_) (Hra : DRA D P d_ ra_) {x0 : Nat} {τ : CS} {o_ : ((Nat ⊕ Nat) × CS)} (hf : f_x_X2_atom su_ ra_ x0 τ = some o_) : xMetX (wC D P) l yX2_atom (ws_ yX2_atom cX2_atom 3 (some (.object "BentRiver$Value"))) (26 + 6 * d_) (60 * (26 + 6 * d_)) (grc τ.1) (grs τ.1) [.ref x0] τ (xzR o_.1, o_.2) := 
  xMetX_of (by decide) (Nat.le_of_ble_eq_true rfl) KC_moved (RPC_of (g := τ.1) (c := τ.2)) (fun K _ _ _ hno => ok_f_x_X2_atom hno Hsu Hra hf (fun _ h => by rw [h]))
theorem hd_f_a_X9_init : yX9_init.cls ≠ "java/lang/invoke/MethodHandle" ∧ yX9_init.cls ≠ "java/lang/invoke/VarHandle" ∧ (parseMethodDescriptor yX9_init.desc).map (fun d => d.parameters.length) = some 0 := by decide +kernel
theorem call_f_a_X9_init_X2_232 {D : CD} {P : CP} {K : xK} {M : xM} {Q : State → Prop} {τ τ1 : CS} {x0 : Nat} {pc : Nat} {loc : List (Nat × Value)} {st : List Value} (hf : f_a_X9_init x0 τ = some τ1) (ho : M.2.2.1 = RX2) (hfr : 5 ≤ M.2.2.2.1) (hlo : 260 ≤ M.2.2.2.2.1) (hcat : (st.map fun v => v.category).sum ≤ 8) (d : decode M.1 pc = .ok (.invokespecial 232, 3)) (k : xV (wC D P) K M Q τ1 (pc + 3) loc st) : xV (wC D P) K M Q τ pc loc (.ref x0 :: st) :=
  yc_callIN (g := τ.1) (c := τ.2) (g1 := τ1.1) (c1 := τ1.2) (As := []) (rest := st) (met_f_a_X9_init K.2.1 hf) (lw_meth q987) q985 q986 q198 rfl hd_f_a_X9_init ho hfr hlo rfl rfl hcat d k
theorem call_f_x_X2_atom_X2_242_r {D : CD} {P : CP} {K : xK} {M : xM} {Q : State → Prop} {τ τ1 : CS} {x0 : Nat} {pc : Nat} {loc : List (Nat × Value)} {st : List Value} {d_ : Nat} {su_ : Nat → CS → Option ((Nat ⊕ Nat) × CS)} {ra_ : Nat → CS → Option ((Nat ⊕ Nat) × CS)} (Hsu : DSU D P d_ su_) (Hra : DRA D P d_ ra_) {r : Nat} (hf : f_x_X2_atom su_ ra_ x0 τ = some (.inl r, τ1)) (hr : gK τ.1 x0 = 3) (ho : M.2.2.1 = RX2) (hfr : 26 + 6 * d_ + 1 ≤ M.2.2.2.1) (hlo : 22 + 60 * (26 + 6 * d_) ≤ M.2.2.2.2.1) (hcat : (st.map fun v => v.category).sum ≤ 8) (d : decode M.1 pc = .ok (.invokevirtual 242, 3)) (k : xV (wC D P) K M Q τ1 (pc + 3) loc (.ref r :: st)) : xV (wC D P) K M Q τ pc loc (.ref x0 :: st) :=
  yc_callVX (g := τ.1) (c := τ.2) (Z := (.inl (some (.ref r)), τ1)) (As := []) (rest := st) (met_f_x_X2_atom K.2.1 Hsu Hra hf) (lw_V q1028 q1030 qs25 q179 q1031) ⟨rfl, hd_f_x_X2_atom⟩ ho hfr hlo rfl hr (by decide) (by decide) rfl rfl hcat d (yx_ret (v := some (.ref r)) k) yx_noT
theorem call_f_x_X2_atom_X2_242_t {D : CD} {P : CP} {K : xK} {M : xM} {Q : State → Prop} {τ τ1 : CS} {x0 : Nat} {pc : Nat} {loc : List (Nat × Value)} {st : List Value} {d_ : Nat} {su_ : Nat → CS → Option ((Nat ⊕ Nat) × CS)} {ra_ : Nat → CS → Option ((Nat ⊕ Nat) × CS)} (Hsu : DSU D P d_ su_) (Hra : DRA D P d_ ra_) {q : Nat} (hf : f_x_X2_atom su_ ra_ x0 τ = some (.inr q, τ1)) (hr : gK τ.1 x0 = 3) (ho : M.2.2.1 = RX2) (hfr : 26 + 6 * d_ + 1 ≤ M.2.2.2.1) (hlo : 22 + 60 * (26 + 6 * d_) ≤ M.2.2.2.2.1) (hcat : (st.map fun v => v.category).sum ≤ 8) (d : decode M.1 pc = .ok (.invokevirtual 242, 3)) (k : xT (wC D P) K M Q τ1 pc loc q) : xV (wC D P) K M Q τ pc loc (.ref x0 :: st) :=
  yc_callVX (g := τ.1) (c := τ.2) (Z := (.inr q, τ1)) (As := []) (rest := st) (met_f_x_X2_atom K.2.1 Hsu Hra hf) (lw_V q1028 q1030 qs25 q179 q1031) ⟨rfl, hd_f_x_X2_atom⟩ ho hfr hlo rfl hr (by decide) (by decide) rfl rfl hcat d yx_noR (yx_thr k)
theorem hd_f_a_X9_add : yX9_add.cls ≠ "java/lang/invoke/MethodHandle" ∧ yX9_add.cls ≠ "java/lang/invoke/VarHandle" ∧ (parseMethodDescriptor yX9_add.desc).map (fun d => d.parameters.length) = some 2 := by decide +kernel
theorem call_f_a_X9_add_X2_236 {D : CD} {P : CP} {K : xK} {M : xM} {Q : State → Prop} {τ τ1 : CS} {x0 : Nat} {x1 : Int32} {x2 : Nat} {pc : Nat} {loc : List (Nat × Value)} {st : List Value} (hf : f_a_X9_add x0 x1 x2 τ = some τ1) (hr : gK τ.1 x0 = 8) (ho : M.2.2.1 = RX2) (hfr : 9 ≤ M.2.2.2.1) (hlo : 502 ≤ M.2.2.2.2.1) (hcat : (st.map fun v => v.category).sum ≤ 8) (d : decode M.1 pc = .ok (.invokevirtual 236, 3)) (k : xV (wC D P) K M Q τ1 (pc + 3) loc st) : xV (wC D P) K M Q τ pc loc (.ref x2 :: .int x1 :: .ref x0 :: st) :=
  yc_callV (g := τ.1) (c := τ.2) (g1 := τ1.1) (c1 := τ1.2) (As := [.int x1, .ref x2]) (rest := st) (met_f_a_X9_add K.2.1 hf) (lw_V q1106 q1107 q1108 q198 q1109) ⟨rfl, hd_f_a_X9_add⟩ ho hfr hlo rfl hr (by decide) (by decide) rfl rfl hcat d k
theorem hd_f_c_X2_takes : yX2_takes.cls ≠ "java/lang/invoke/MethodHandle" ∧ yX2_takes.cls ≠ "java/lang/invoke/VarHandle" ∧ (parseMethodDescriptor yX2_takes.desc).map (fun d => d.parameters.length) = some 1 := by decide +kernel
theorem call_f_c_X2_takes_X2_239 {D : CD} {P : CP} {K : xK} {M : xM} {Q : State → Prop} {g : CG} {c : CC} {x0 : Nat} {x1 : Int32} {pc : Nat} {loc : List (Nat × Value)} {st : List Value} {r : Int32} {c1 : CC} (hf : f_c_X2_takes g x0 x1 c = some (r, c1)) (hr : gK g x0 = 3) (ho : M.2.2.1 = RX2) (hfr : 3 ≤ M.2.2.2.1) (hlo : 142 ≤ M.2.2.2.2.1) (hcat : (st.map fun v => v.category).sum ≤ 8) (d : decode M.1 pc = .ok (.invokevirtual 239, 3)) (k : xV (wC D P) K M Q (g, c1) (pc + 3) loc (.int r :: st)) : xV (wC D P) K M Q (g, c) pc loc (.int x1 :: .ref x0 :: st) :=
  yc_callV (As := [.int x1]) (rest := st) (met_f_c_X2_takes K.2.1 hf) (lw_V q1167 q1169 qs29 q179 q1170) ⟨rfl, hd_f_c_X2_takes⟩ ho hfr hlo rfl hr (by decide) (by decide) rfl rfl hcat d k
abbrev mX2_product (d_ : Nat) : xM := (cX2_product, 3, RX2, (27 + 6 * d_), (60 * (27 + 6 * d_)), (some (.object "BentRiver$Value")), "product")
def Bc_X2_product_20 (su_ : Nat → CS → Option ((Nat ⊕ Nat) × CS)) (ra_ : Nat → CS → Option ((Nat ⊕ Nat) × CS)) (x0 : Nat) (x1 : Nat) (x2 : Int32) (τ : CS) : Option ((Int32 × CS) ⊕ ((CS) ⊕ (((Nat ⊕ Nat) × CS)))) :=
  if x2 = 0 then
  some (.inr (.inl τ))
  else
  if gT τ.1 x0 = 3 then
  xbd (f_c_X2_takes τ.1 x0 42 τ.2) fun r8 τ8 =>
  if r8 = 0 then
  xbd (f_c_X2_takes τ.1 x0 47 τ8) fun r9 τ9 =>
  if r9 = 0 then
  some (.inl (0, (τ.1, τ9)))
  else
  xbx (f_x_X2_atom su_ ra_ x0 (τ.1, τ9)) (fun r10 τ10 =>
  if gT τ10.1 x1 = 8 then
  (f_a_X9_add x1 47 r10 τ10).bind fun τ12 =>
  some (.inl (x2, τ12))
  else none) (fun q13 τ13 => some (.inr (.inr (.inr q13, τ13))))
  else
  xbx (f_x_X2_atom su_ ra_ x0 (τ.1, τ8)) (fun r14 τ14 =>
  if gT τ14.1 x1 = 8 then
  (f_a_X9_add x1 42 r14 τ14).bind fun τ16 =>
  some (.inl (x2, τ16))
  else none) (fun q17 τ17 => some (.inr (.inr (.inr q17, τ17))))
  else none
theorem ok_Bc_X2_product_20 {D : CD} {P : CP} {K : xK} (hno : xNoT K) {d_ : Nat} {su_ : Nat → CS → Option ((Nat ⊕ Nat) × CS)} {ra_ : Nat → CS → Option ((Nat ⊕ Nat) × CS)} (Hsu : DSU D P d_ su_) (Hra : DRA D P d_ ra_) {Z : (Option Value ⊕ Nat) × CS} {x0 : Nat} {x1 : Nat} {x2 : Int32} {τ : CS} {o_ : ((Int32 × CS) ⊕ ((CS) ⊕ (((Nat ⊕ Nat) × CS))))} (hf : Bc_X2_product_20 su_ ra_ x0 x1 x2 τ = some o_) (kc : ∀ s_ : Int32 × CS, o_ = .inl s_ → xV (wC D P) K (mX2_product d_) (xQX (wC D P) K Z) s_.2 20 [(0, .ref x0), (1, .ref x1), (2, .int s_.1)] []) (ke0 : ∀ e_ : CS, o_ = .inr (.inl e_) → xV (wC D P) K (mX2_product d_) (xQX (wC D P) K Z) e_ 73 [(1, .ref x1)] []) (kr : ∀ r_ : ((Nat ⊕ Nat) × CS), o_ = .inr (.inr r_) → Z = (xzR r_.1, r_.2)) : xV (wC D P) K (mX2_product d_) (xQX (wC D P) K Z) τ 20 [(0, .ref x0), (1, .ref x1), (2, .int x2)] [] := by
  unfold Bc_X2_product_20 at hf
  refine xr_iload_n (pc := 20) 2 dX2_product_20 rfl rfl ?_
  refine xr_if_eq (pc := 21) 73 dX2_product_21 (by decide) (fun c_ => ?_) (fun c_ => ?_)
  · have hf := xo_pos c_ hf
    refine xV_sub [1] rfl ?_
    exact ke0 _ (Option.some.inj hf).symm
  · have hf := xo_neg c_ hf
    refine xr_aload_n (pc := 24) 0 dX2_product_24 rfl rfl ?_
    refine xr_bipush (pc := 25) dX2_product_25 xcb_42 ?_
    obtain ⟨ht7, hf⟩ := xo_if hf
    obtain ⟨r8, τ8, hτ8, hf⟩ := xo_bd hf
    refine call_f_c_X2_takes_X2_239 (pc := 27) hτ8 (gKo ht7 (by decide)) rfl (by show 3 ≤ 27 + 6 * d_; omega) (by show 142 ≤ 60 * (27 + 6 * d_); omega) (Nat.le_of_ble_eq_true rfl) dX2_product_27 ?_
    refine xr_if_eq (pc := 30) 46 dX2_product_30 (by decide) (fun c_ => ?_) (fun c_ => ?_)
    · have hf := xo_pos c_ hf
      refine xr_aload_n (pc := 46) 0 dX2_product_46 rfl rfl ?_
      refine xr_bipush (pc := 47) dX2_product_47 xcb_47 ?_
      obtain ⟨r9, τ9, hτ9, hf⟩ := xo_bd hf
      refine call_f_c_X2_takes_X2_239 (pc := 49) hτ9 (gKo ht7 (by decide)) rfl (by show 3 ≤ 27 + 6 * d_; omega) (by show 142 ≤ 60 * (27 + 6 * d_); omega) (Nat.le_of_ble_eq_true rfl) dX2_product_49 ?_
      refine xr_if_eq (pc := 52) 68 dX2_product_52 (by decide) (fun c_ => ?_) (fun c_ => ?_)
      · have hf := xo_pos c_ hf
        refine xr_iconst (pc := 68) dX2_product_68 xci_0 ?_
        refine xr_istore_n (pc := 69) (loc' := [(2, .int 0), (0, .ref x0), (1, .ref x1)]) dX2_product_69 rfl (by show 2 < 3; decide) rfl ?_
        refine xr_goto (pc := 70) 20 dX2_product_70 (by decide) ?_
        refine xV_sub [1, 2, 0] rfl ?_
        exact kc _ (Option.some.inj hf).symm
      · have hf := xo_neg c_ hf
        refine xr_aload_n (pc := 55) 1 dX2_product_55 rfl rfl ?_
        refine xr_bipush (pc := 56) dX2_product_56 xcb_47 ?_
        refine xr_aload_n (pc := 58) 0 dX2_product_58 rfl rfl ?_
        rcases xo_bx hf with ⟨r10, τ10, hτ10, hf⟩ | ⟨q13, τ13, hτ13, hf⟩
        · refine call_f_x_X2_atom_X2_242_r (pc := 59) Hsu Hra hτ10 (gKo ht7 (by decide)) rfl (by show 26 + 6 * d_ + 1 ≤ 27 + 6 * d_; omega) (by show 22 + 60 * (26 + 6 * d_) ≤ 60 * (27 + 6 * d_); omega) (Nat.le_of_ble_eq_true rfl) dX2_product_59 ?_
          obtain ⟨ht11, hf⟩ := xo_if hf
          obtain ⟨τ12, hτ12, hf⟩ := xo_bind hf
          refine call_f_a_X9_add_X2_236 (pc := 62) hτ12 (gKo ht11 (by decide)) rfl (by show 9 ≤ 27 + 6 * d_; omega) (by show 502 ≤ 60 * (27 + 6 * d_); omega) (Nat.le_of_ble_eq_true rfl) dX2_product_62 ?_
          refine xr_goto (pc := 65) 20 dX2_product_65 (by decide) ?_
          exact kc _ (Option.some.inj hf).symm
        · refine call_f_x_X2_atom_X2_242_t (pc := 59) Hsu Hra hτ13 (gKo ht7 (by decide)) rfl (by show 26 + 6 * d_ + 1 ≤ 27 + 6 * d_; omega) (by show 22 + 60 * (26 + 6 * d_) ≤ 60 * (27 + 6 * d_); omega) (Nat.le_of_ble_eq_true rfl) dX2_product_59 ?_
          rw [kr _ (Option.some.inj hf).symm]
          exact xT_out hno
    · have hf := xo_neg c_ hf
      refine xr_aload_n (pc := 33) 1 dX2_product_33 rfl rfl ?_
      refine xr_bipush (pc := 34) dX2_product_34 xcb_42 ?_
      refine xr_aload_n (pc := 36) 0 dX2_product_36 rfl rfl ?_
      rcases xo_bx hf with ⟨r14, τ14, hτ14, hf⟩ | ⟨q17, τ17, hτ17, hf⟩
      · refine call_f_x_X2_atom_X2_242_r (pc := 37) Hsu Hra hτ14 (gKo ht7 (by decide)) rfl (by show 26 + 6 * d_ + 1 ≤ 27 + 6 * d_; omega) (by show 22 + 60 * (26 + 6 * d_) ≤ 60 * (27 + 6 * d_); omega) (Nat.le_of_ble_eq_true rfl) dX2_product_37 ?_
        obtain ⟨ht15, hf⟩ := xo_if hf
        obtain ⟨τ16, hτ16, hf⟩ := xo_bind hf
        refine call_f_a_X9_add_X2_236 (pc := 40) hτ16 (gKo ht15 (by decide)) rfl (by show 9 ≤ 27 + 6 * d_; omega) (by show 502 ≤ 60 * (27 + 6 * d_); omega) (Nat.le_of_ble_eq_true rfl) dX2_product_40 ?_
        refine xr_goto (pc := 43) 20 dX2_product_43 (by decide) ?_
        exact kc _ (Option.some.inj hf).symm
      · refine call_f_x_X2_atom_X2_242_t (pc := 37) Hsu Hra hτ17 (gKo ht7 (by decide)) rfl (by show 26 + 6 * d_ + 1 ≤ 27 + 6 * d_; omega) (by show 22 + 60 * (26 + 6 * d_) ≤ 60 * (27 + 6 * d_); omega) (Nat.le_of_ble_eq_true rfl) dX2_product_37 ?_
        rw [kr _ (Option.some.inj hf).symm]
        exact xT_out hno
def f_x_X2_product (su_ : Nat → CS → Option ((Nat ⊕ Nat) × CS)) (ra_ : Nat → CS → Option ((Nat ⊕ Nat) × CS)) (x0 : Nat) (τ : CS) : Option ((Nat ⊕ Nat) × CS) :=
  xbd (aNew 8 τ) fun r1 τ1 =>
  (f_a_X9_init r1 τ1).bind fun τ2 =>
  if gT τ2.1 x0 = 3 then
  xbx (f_x_X2_atom su_ ra_ x0 τ2) (fun r4 τ4 =>
  if gT τ4.1 r1 = 8 then
  (f_a_X9_add r1 42 r4 τ4).bind fun τ6 =>
  (itr (fun s_ : Int32 × CS => Bc_X2_product_20 su_ ra_ x0 r1 s_.1 s_.2) 4096 (1, τ6)).bind fun b18 =>
  (Sum.elim (fun e19 => some ((.inl r1, e19))) (fun r_ => some r_)) b18
  else none) (fun q20 τ20 => some ((.inr q20, τ20)))
  else none
theorem ok_f_x_X2_product {D : CD} {P : CP} {K : xK} (hno : xNoT K) {d_ : Nat} {su_ : Nat → CS → Option ((Nat ⊕ Nat) × CS)} {ra_ : Nat → CS → Option ((Nat ⊕ Nat) × CS)} (Hsu : DSU D P d_ su_) (Hra : DRA D P d_ ra_) {Z : (Option Value ⊕ Nat) × CS} {x0 : Nat} {τ : CS} {o_ : ((Nat ⊕ Nat) × CS)} (hf : f_x_X2_product su_ ra_ x0 τ = some o_) (kr : ∀ r_ : ((Nat ⊕ Nat) × CS), o_ = r_ → Z = (xzR r_.1, r_.2)) : xV (wC D P) K (mX2_product d_) (xQX (wC D P) K Z) τ 0 [(0, .ref x0)] [] := by
  unfold f_x_X2_product at hf
  obtain ⟨r1, τ1, hτ1, hf⟩ := xo_bd hf
  refine yc_aNew (pc := 0) 8 (by decide) (by decide) q983 q984 q198 hτ1 rfl dX2_product_0 ?_
  refine xr_dup (pc := 3) dX2_product_3 rfl ?_
  obtain ⟨τ2, hτ2, hf⟩ := xo_bind hf
  refine call_f_a_X9_init_X2_232 (pc := 4) hτ2 rfl (by show 5 ≤ 27 + 6 * d_; omega) (by show 260 ≤ 60 * (27 + 6 * d_); omega) (Nat.le_of_ble_eq_true rfl) dX2_product_4 ?_
  refine xr_astore_n (pc := 7) (loc' := [(1, .ref r1), (0, .ref x0)]) dX2_product_7 rfl (by show 1 < 3; decide) rfl ?_
  refine xr_aload_n (pc := 8) 0 dX2_product_8 rfl rfl ?_
  refine xr_bipush (pc := 9) dX2_product_9 xcb_42 ?_
  refine xr_aload_n (pc := 11) 1 dX2_product_11 rfl rfl ?_
  obtain ⟨ht3, hf⟩ := xo_if hf
  rcases xo_bx hf with ⟨r4, τ4, hτ4, hf⟩ | ⟨q20, τ20, hτ20, hf⟩
  · refine call_f_x_X2_atom_X2_242_r (pc := 12) Hsu Hra hτ4 (gKo ht3 (by decide)) rfl (by show 26 + 6 * d_ + 1 ≤ 27 + 6 * d_; omega) (by show 22 + 60 * (26 + 6 * d_) ≤ 60 * (27 + 6 * d_); omega) (Nat.le_of_ble_eq_true rfl) dX2_product_12 ?_
    obtain ⟨ht5, hf⟩ := xo_if hf
    obtain ⟨τ6, hτ6, hf⟩ := xo_bind hf
    refine call_f_a_X9_add_X2_236 (pc := 15) hτ6 (gKo ht5 (by decide)) rfl (by show 9 ≤ 27 + 6 * d_; omega) (by show 502 ≤ 60 * (27 + 6 * d_); omega) (Nat.le_of_ble_eq_true rfl) dX2_product_15 ?_
    refine xr_iconst (pc := 18) dX2_product_18 xci_1 ?_
    refine xr_istore_n (pc := 19) (loc' := [(2, .int 1), (1, .ref r1), (0, .ref x0)]) dX2_product_19 rfl (by show 2 < 3; decide) rfl ?_
    refine xV_sub [2, 1, 0] rfl ?_
    obtain ⟨b18, hb18, hf⟩ := xo_bind hf
    refine itr_rule (P := fun s_ : Int32 × CS => xV (wC D P) K (mX2_product d_) (xQX (wC D P) K Z) s_.2 20 [(0, .ref x0), (1, .ref r1), (2, .int s_.1)] []) (fun s_ o_ hB_ hc_ he_ => ok_Bc_X2_product_20 hno Hsu Hra hB_ hc_ (fun e19 h_ => ?_) (fun r_ h_ => ?_)) 4096 _ hb18
    · have e9_ := he_ _ h_
      subst e9_
      have hf := xo_inl hf
      refine xr_aload_n (pc := 73) 0 dX2_product_73 rfl rfl ?_
      rw [kr _ (Option.some.inj hf).symm]
      exact xV_ret (xr_aret (pc := 74) dX2_product_74 rfl (Or.inl ⟨_, rfl⟩))
    · have e9_ := he_ _ h_
      subst e9_
      have hf := xo_inr hf
      exact kr _ (Option.some.inj hf).symm
  · refine call_f_x_X2_atom_X2_242_t (pc := 12) Hsu Hra hτ20 (gKo ht3 (by decide)) rfl (by show 26 + 6 * d_ + 1 ≤ 27 + 6 * d_; omega) (by show 22 + 60 * (26 + 6 * d_) ≤ 60 * (27 + 6 * d_); omega) (Nat.le_of_ble_eq_true rfl) dX2_product_12 ?_
    rw [kr _ (Option.some.inj hf).symm]
    exact xT_out hno
theorem met_f_x_X2_product (l : Launch) {D : CD} {P : CP} {d_ : Nat} {su_ : Nat → CS → Option ((Nat ⊕ Nat) × CS)} {ra_ : Nat → CS → Option ((Nat ⊕ Nat) × CS)} (Hsu : DSU D P d_ su_) (Hra : DRA D P d_ ra_) {x0 : Nat} {τ : CS} {o_ : ((Nat ⊕ Nat) × CS)} (hf : f_x_X2_product su_ ra_ x0 τ = some o_) : xMetX (wC D P) l yX2_product (ws_ yX2_product cX2_product 3 (some (.object "BentRiver$Value"))) (27 + 6 * d_) (60 * (27 + 6 * d_)) (grc τ.1) (grs τ.1) [.ref x0] τ (xzR o_.1, o_.2) := 
  xMetX_of (by decide) (Nat.le_of_ble_eq_true rfl) KC_moved (RPC_of (g := τ.1) (c := τ.2)) (fun K _ _ _ hno => ok_f_x_X2_product hno Hsu Hra hf (fun _ h => by rw [h]))
theorem hd_f_x_X2_product : yX2_product.cls ≠ "java/lang/invoke/MethodHandle" ∧ yX2_product.cls ≠ "java/lang/invoke/VarHandle" ∧ (parseMethodDescriptor yX2_product.desc).map (fun d => d.parameters.length) = some 0 := by decide +kernel
theorem call_f_x_X2_product_X2_233_r {D : CD} {P : CP} {K : xK} {M : xM} {Q : State → Prop} {τ τ1 : CS} {x0 : Nat} {pc : Nat} {loc : List (Nat × Value)} {st : List Value} {d_ : Nat} {su_ : Nat → CS → Option ((Nat ⊕ Nat) × CS)} {ra_ : Nat → CS → Option ((Nat ⊕ Nat) × CS)} (Hsu : DSU D P d_ su_) (Hra : DRA D P d_ ra_) {r : Nat} (hf : f_x_X2_product su_ ra_ x0 τ = some (.inl r, τ1)) (hr : gK τ.1 x0 = 3) (ho : M.2.2.1 = RX2) (hfr : 27 + 6 * d_ + 1 ≤ M.2.2.2.1) (hlo : 22 + 60 * (27 + 6 * d_) ≤ M.2.2.2.2.1) (hcat : (st.map fun v => v.category).sum ≤ 8) (d : decode M.1 pc = .ok (.invokevirtual 233, 3)) (k : xV (wC D P) K M Q τ1 (pc + 3) loc (.ref r :: st)) : xV (wC D P) K M Q τ pc loc (.ref x0 :: st) :=
  yc_callVX (g := τ.1) (c := τ.2) (Z := (.inl (some (.ref r)), τ1)) (As := []) (rest := st) (met_f_x_X2_product K.2.1 Hsu Hra hf) (lw_V q1024 q1026 qs24 q179 q1027) ⟨rfl, hd_f_x_X2_product⟩ ho hfr hlo rfl hr (by decide) (by decide) rfl rfl hcat d (yx_ret (v := some (.ref r)) k) yx_noT
theorem call_f_x_X2_product_X2_233_t {D : CD} {P : CP} {K : xK} {M : xM} {Q : State → Prop} {τ τ1 : CS} {x0 : Nat} {pc : Nat} {loc : List (Nat × Value)} {st : List Value} {d_ : Nat} {su_ : Nat → CS → Option ((Nat ⊕ Nat) × CS)} {ra_ : Nat → CS → Option ((Nat ⊕ Nat) × CS)} (Hsu : DSU D P d_ su_) (Hra : DRA D P d_ ra_) {q : Nat} (hf : f_x_X2_product su_ ra_ x0 τ = some (.inr q, τ1)) (hr : gK τ.1 x0 = 3) (ho : M.2.2.1 = RX2) (hfr : 27 + 6 * d_ + 1 ≤ M.2.2.2.1) (hlo : 22 + 60 * (27 + 6 * d_) ≤ M.2.2.2.2.1) (hcat : (st.map fun v => v.category).sum ≤ 8) (d : decode M.1 pc = .ok (.invokevirtual 233, 3)) (k : xT (wC D P) K M Q τ1 pc loc q) : xV (wC D P) K M Q τ pc loc (.ref x0 :: st) :=
  yc_callVX (g := τ.1) (c := τ.2) (Z := (.inr q, τ1)) (As := []) (rest := st) (met_f_x_X2_product K.2.1 Hsu Hra hf) (lw_V q1024 q1026 qs24 q179 q1027) ⟨rfl, hd_f_x_X2_product⟩ ho hfr hlo rfl hr (by decide) (by decide) rfl rfl hcat d yx_noR (yx_thr k)
abbrev mX2_sum (d_ : Nat) : xM := (cX2_sum, 3, RX2, (28 + 6 * d_), (60 * (28 + 6 * d_)), (some (.object "BentRiver$Value")), "sum")
def Bc_X2_sum_20 (su_ : Nat → CS → Option ((Nat ⊕ Nat) × CS)) (ra_ : Nat → CS → Option ((Nat ⊕ Nat) × CS)) (x0 : Nat) (x1 : Nat) (x2 : Int32) (τ : CS) : Option ((Int32 × CS) ⊕ ((CS) ⊕ (((Nat ⊕ Nat) × CS)))) :=
  if x2 = 0 then
  some (.inr (.inl τ))
  else
  if gT τ.1 x0 = 3 then
  xbd (f_c_X2_takes τ.1 x0 43 τ.2) fun r8 τ8 =>
  if r8 = 0 then
  xbd (f_c_X2_takes τ.1 x0 45 τ8) fun r9 τ9 =>
  if r9 = 0 then
  some (.inl (0, (τ.1, τ9)))
  else
  xbx (f_x_X2_product su_ ra_ x0 (τ.1, τ9)) (fun r10 τ10 =>
  if gT τ10.1 x1 = 8 then
  (f_a_X9_add x1 45 r10 τ10).bind fun τ12 =>
  some (.inl (x2, τ12))
  else none) (fun q13 τ13 => some (.inr (.inr (.inr q13, τ13))))
  else
  xbx (f_x_X2_product su_ ra_ x0 (τ.1, τ8)) (fun r14 τ14 =>
  if gT τ14.1 x1 = 8 then
  (f_a_X9_add x1 43 r14 τ14).bind fun τ16 =>
  some (.inl (x2, τ16))
  else none) (fun q17 τ17 => some (.inr (.inr (.inr q17, τ17))))
  else none
theorem ok_Bc_X2_sum_20 {D : CD} {P : CP} {K : xK} (hno : xNoT K) {d_ : Nat} {su_ : Nat → CS → Option ((Nat ⊕ Nat) × CS)} {ra_ : Nat → CS → Option ((Nat ⊕ Nat) × CS)} (Hsu : DSU D P d_ su_) (Hra : DRA D P d_ ra_) {Z : (Option Value ⊕ Nat) × CS} {x0 : Nat} {x1 : Nat} {x2 : Int32} {τ : CS} {o_ : ((Int32 × CS) ⊕ ((CS) ⊕ (((Nat ⊕ Nat) × CS))))} (hf : Bc_X2_sum_20 su_ ra_ x0 x1 x2 τ = some o_) (kc : ∀ s_ : Int32 × CS, o_ = .inl s_ → xV (wC D P) K (mX2_sum d_) (xQX (wC D P) K Z) s_.2 20 [(0, .ref x0), (1, .ref x1), (2, .int s_.1)] []) (ke0 : ∀ e_ : CS, o_ = .inr (.inl e_) → xV (wC D P) K (mX2_sum d_) (xQX (wC D P) K Z) e_ 73 [(1, .ref x1)] []) (kr : ∀ r_ : ((Nat ⊕ Nat) × CS), o_ = .inr (.inr r_) → Z = (xzR r_.1, r_.2)) : xV (wC D P) K (mX2_sum d_) (xQX (wC D P) K Z) τ 20 [(0, .ref x0), (1, .ref x1), (2, .int x2)] [] := by
  unfold Bc_X2_sum_20 at hf
  refine xr_iload_n (pc := 20) 2 dX2_sum_20 rfl rfl ?_
  refine xr_if_eq (pc := 21) 73 dX2_sum_21 (by decide) (fun c_ => ?_) (fun c_ => ?_)
  · have hf := xo_pos c_ hf
    refine xV_sub [1] rfl ?_
    exact ke0 _ (Option.some.inj hf).symm
  · have hf := xo_neg c_ hf
    refine xr_aload_n (pc := 24) 0 dX2_sum_24 rfl rfl ?_
    refine xr_bipush (pc := 25) dX2_sum_25 xcb_43 ?_
    obtain ⟨ht7, hf⟩ := xo_if hf
    obtain ⟨r8, τ8, hτ8, hf⟩ := xo_bd hf
    refine call_f_c_X2_takes_X2_239 (pc := 27) hτ8 (gKo ht7 (by decide)) rfl (by show 3 ≤ 28 + 6 * d_; omega) (by show 142 ≤ 60 * (28 + 6 * d_); omega) (Nat.le_of_ble_eq_true rfl) dX2_sum_27 ?_
    refine xr_if_eq (pc := 30) 46 dX2_sum_30 (by decide) (fun c_ => ?_) (fun c_ => ?_)
    · have hf := xo_pos c_ hf
      refine xr_aload_n (pc := 46) 0 dX2_sum_46 rfl rfl ?_
      refine xr_bipush (pc := 47) dX2_sum_47 xcb_45 ?_
      obtain ⟨r9, τ9, hτ9, hf⟩ := xo_bd hf
      refine call_f_c_X2_takes_X2_239 (pc := 49) hτ9 (gKo ht7 (by decide)) rfl (by show 3 ≤ 28 + 6 * d_; omega) (by show 142 ≤ 60 * (28 + 6 * d_); omega) (Nat.le_of_ble_eq_true rfl) dX2_sum_49 ?_
      refine xr_if_eq (pc := 52) 68 dX2_sum_52 (by decide) (fun c_ => ?_) (fun c_ => ?_)
      · have hf := xo_pos c_ hf
        refine xr_iconst (pc := 68) dX2_sum_68 xci_0 ?_
        refine xr_istore_n (pc := 69) (loc' := [(2, .int 0), (0, .ref x0), (1, .ref x1)]) dX2_sum_69 rfl (by show 2 < 3; decide) rfl ?_
        refine xr_goto (pc := 70) 20 dX2_sum_70 (by decide) ?_
        refine xV_sub [1, 2, 0] rfl ?_
        exact kc _ (Option.some.inj hf).symm
      · have hf := xo_neg c_ hf
        refine xr_aload_n (pc := 55) 1 dX2_sum_55 rfl rfl ?_
        refine xr_bipush (pc := 56) dX2_sum_56 xcb_45 ?_
        refine xr_aload_n (pc := 58) 0 dX2_sum_58 rfl rfl ?_
        rcases xo_bx hf with ⟨r10, τ10, hτ10, hf⟩ | ⟨q13, τ13, hτ13, hf⟩
        · refine call_f_x_X2_product_X2_233_r (pc := 59) Hsu Hra hτ10 (gKo ht7 (by decide)) rfl (by show 27 + 6 * d_ + 1 ≤ 28 + 6 * d_; omega) (by show 22 + 60 * (27 + 6 * d_) ≤ 60 * (28 + 6 * d_); omega) (Nat.le_of_ble_eq_true rfl) dX2_sum_59 ?_
          obtain ⟨ht11, hf⟩ := xo_if hf
          obtain ⟨τ12, hτ12, hf⟩ := xo_bind hf
          refine call_f_a_X9_add_X2_236 (pc := 62) hτ12 (gKo ht11 (by decide)) rfl (by show 9 ≤ 28 + 6 * d_; omega) (by show 502 ≤ 60 * (28 + 6 * d_); omega) (Nat.le_of_ble_eq_true rfl) dX2_sum_62 ?_
          refine xr_goto (pc := 65) 20 dX2_sum_65 (by decide) ?_
          exact kc _ (Option.some.inj hf).symm
        · refine call_f_x_X2_product_X2_233_t (pc := 59) Hsu Hra hτ13 (gKo ht7 (by decide)) rfl (by show 27 + 6 * d_ + 1 ≤ 28 + 6 * d_; omega) (by show 22 + 60 * (27 + 6 * d_) ≤ 60 * (28 + 6 * d_); omega) (Nat.le_of_ble_eq_true rfl) dX2_sum_59 ?_
          rw [kr _ (Option.some.inj hf).symm]
          exact xT_out hno
    · have hf := xo_neg c_ hf
      refine xr_aload_n (pc := 33) 1 dX2_sum_33 rfl rfl ?_
      refine xr_bipush (pc := 34) dX2_sum_34 xcb_43 ?_
      refine xr_aload_n (pc := 36) 0 dX2_sum_36 rfl rfl ?_
      rcases xo_bx hf with ⟨r14, τ14, hτ14, hf⟩ | ⟨q17, τ17, hτ17, hf⟩
      · refine call_f_x_X2_product_X2_233_r (pc := 37) Hsu Hra hτ14 (gKo ht7 (by decide)) rfl (by show 27 + 6 * d_ + 1 ≤ 28 + 6 * d_; omega) (by show 22 + 60 * (27 + 6 * d_) ≤ 60 * (28 + 6 * d_); omega) (Nat.le_of_ble_eq_true rfl) dX2_sum_37 ?_
        obtain ⟨ht15, hf⟩ := xo_if hf
        obtain ⟨τ16, hτ16, hf⟩ := xo_bind hf
        refine call_f_a_X9_add_X2_236 (pc := 40) hτ16 (gKo ht15 (by decide)) rfl (by show 9 ≤ 28 + 6 * d_; omega) (by show 502 ≤ 60 * (28 + 6 * d_); omega) (Nat.le_of_ble_eq_true rfl) dX2_sum_40 ?_
        refine xr_goto (pc := 43) 20 dX2_sum_43 (by decide) ?_
        exact kc _ (Option.some.inj hf).symm
      · refine call_f_x_X2_product_X2_233_t (pc := 37) Hsu Hra hτ17 (gKo ht7 (by decide)) rfl (by show 27 + 6 * d_ + 1 ≤ 28 + 6 * d_; omega) (by show 22 + 60 * (27 + 6 * d_) ≤ 60 * (28 + 6 * d_); omega) (Nat.le_of_ble_eq_true rfl) dX2_sum_37 ?_
        rw [kr _ (Option.some.inj hf).symm]
        exact xT_out hno
def f_x_X2_sum (su_ : Nat → CS → Option ((Nat ⊕ Nat) × CS)) (ra_ : Nat → CS → Option ((Nat ⊕ Nat) × CS)) (x0 : Nat) (τ : CS) : Option ((Nat ⊕ Nat) × CS) :=
  xbd (aNew 8 τ) fun r1 τ1 =>
  (f_a_X9_init r1 τ1).bind fun τ2 =>
  if gT τ2.1 x0 = 3 then
  xbx (f_x_X2_product su_ ra_ x0 τ2) (fun r4 τ4 =>
  if gT τ4.1 r1 = 8 then
  (f_a_X9_add r1 43 r4 τ4).bind fun τ6 =>
  (itr (fun s_ : Int32 × CS => Bc_X2_sum_20 su_ ra_ x0 r1 s_.1 s_.2) 4096 (1, τ6)).bind fun b18 =>
  (Sum.elim (fun e19 => some ((.inl r1, e19))) (fun r_ => some r_)) b18
  else none) (fun q20 τ20 => some ((.inr q20, τ20)))
  else none
theorem ok_f_x_X2_sum {D : CD} {P : CP} {K : xK} (hno : xNoT K) {d_ : Nat} {su_ : Nat → CS → Option ((Nat ⊕ Nat) × CS)} {ra_ : Nat → CS → Option ((Nat ⊕ Nat) × CS)} (Hsu : DSU D P d_ su_) (Hra : DRA D P d_ ra_) {Z : (Option Value ⊕ Nat) × CS} {x0 : Nat} {τ : CS} {o_ : ((Nat ⊕ Nat) × CS)} (hf : f_x_X2_sum su_ ra_ x0 τ = some o_) (kr : ∀ r_ : ((Nat ⊕ Nat) × CS), o_ = r_ → Z = (xzR r_.1, r_.2)) : xV (wC D P) K (mX2_sum d_) (xQX (wC D P) K Z) τ 0 [(0, .ref x0)] [] := by
  unfold f_x_X2_sum at hf
  obtain ⟨r1, τ1, hτ1, hf⟩ := xo_bd hf
  refine yc_aNew (pc := 0) 8 (by decide) (by decide) q983 q984 q198 hτ1 rfl dX2_sum_0 ?_
  refine xr_dup (pc := 3) dX2_sum_3 rfl ?_
  obtain ⟨τ2, hτ2, hf⟩ := xo_bind hf
  refine call_f_a_X9_init_X2_232 (pc := 4) hτ2 rfl (by show 5 ≤ 28 + 6 * d_; omega) (by show 260 ≤ 60 * (28 + 6 * d_); omega) (Nat.le_of_ble_eq_true rfl) dX2_sum_4 ?_
  refine xr_astore_n (pc := 7) (loc' := [(1, .ref r1), (0, .ref x0)]) dX2_sum_7 rfl (by show 1 < 3; decide) rfl ?_
  refine xr_aload_n (pc := 8) 0 dX2_sum_8 rfl rfl ?_
  refine xr_bipush (pc := 9) dX2_sum_9 xcb_43 ?_
  refine xr_aload_n (pc := 11) 1 dX2_sum_11 rfl rfl ?_
  obtain ⟨ht3, hf⟩ := xo_if hf
  rcases xo_bx hf with ⟨r4, τ4, hτ4, hf⟩ | ⟨q20, τ20, hτ20, hf⟩
  · refine call_f_x_X2_product_X2_233_r (pc := 12) Hsu Hra hτ4 (gKo ht3 (by decide)) rfl (by show 27 + 6 * d_ + 1 ≤ 28 + 6 * d_; omega) (by show 22 + 60 * (27 + 6 * d_) ≤ 60 * (28 + 6 * d_); omega) (Nat.le_of_ble_eq_true rfl) dX2_sum_12 ?_
    obtain ⟨ht5, hf⟩ := xo_if hf
    obtain ⟨τ6, hτ6, hf⟩ := xo_bind hf
    refine call_f_a_X9_add_X2_236 (pc := 15) hτ6 (gKo ht5 (by decide)) rfl (by show 9 ≤ 28 + 6 * d_; omega) (by show 502 ≤ 60 * (28 + 6 * d_); omega) (Nat.le_of_ble_eq_true rfl) dX2_sum_15 ?_
    refine xr_iconst (pc := 18) dX2_sum_18 xci_1 ?_
    refine xr_istore_n (pc := 19) (loc' := [(2, .int 1), (1, .ref r1), (0, .ref x0)]) dX2_sum_19 rfl (by show 2 < 3; decide) rfl ?_
    refine xV_sub [2, 1, 0] rfl ?_
    obtain ⟨b18, hb18, hf⟩ := xo_bind hf
    refine itr_rule (P := fun s_ : Int32 × CS => xV (wC D P) K (mX2_sum d_) (xQX (wC D P) K Z) s_.2 20 [(0, .ref x0), (1, .ref r1), (2, .int s_.1)] []) (fun s_ o_ hB_ hc_ he_ => ok_Bc_X2_sum_20 hno Hsu Hra hB_ hc_ (fun e19 h_ => ?_) (fun r_ h_ => ?_)) 4096 _ hb18
    · have e9_ := he_ _ h_
      subst e9_
      have hf := xo_inl hf
      refine xr_aload_n (pc := 73) 0 dX2_sum_73 rfl rfl ?_
      rw [kr _ (Option.some.inj hf).symm]
      exact xV_ret (xr_aret (pc := 74) dX2_sum_74 rfl (Or.inl ⟨_, rfl⟩))
    · have e9_ := he_ _ h_
      subst e9_
      have hf := xo_inr hf
      exact kr _ (Option.some.inj hf).symm
  · refine call_f_x_X2_product_X2_233_t (pc := 12) Hsu Hra hτ20 (gKo ht3 (by decide)) rfl (by show 27 + 6 * d_ + 1 ≤ 28 + 6 * d_; omega) (by show 22 + 60 * (27 + 6 * d_) ≤ 60 * (28 + 6 * d_); omega) (Nat.le_of_ble_eq_true rfl) dX2_sum_12 ?_
    rw [kr _ (Option.some.inj hf).symm]
    exact xT_out hno
theorem met_f_x_X2_sum (l : Launch) {D : CD} {P : CP} {d_ : Nat} {su_ : Nat → CS → Option ((Nat ⊕ Nat) × CS)} {ra_ : Nat → CS → Option ((Nat ⊕ Nat) × CS)} (Hsu : DSU D P d_ su_) (Hra : DRA D P d_ ra_) {x0 : Nat} {τ : CS} {o_ : ((Nat ⊕ Nat) × CS)} (hf : f_x_X2_sum su_ ra_ x0 τ = some o_) : xMetX (wC D P) l yX2_sum (ws_ yX2_sum cX2_sum 3 (some (.object "BentRiver$Value"))) (28 + 6 * d_) (60 * (28 + 6 * d_)) (grc τ.1) (grs τ.1) [.ref x0] τ (xzR o_.1, o_.2) := 
  xMetX_of (by decide) (Nat.le_of_ble_eq_true rfl) KC_moved (RPC_of (g := τ.1) (c := τ.2)) (fun K _ _ _ hno => ok_f_x_X2_sum hno Hsu Hra hf (fun _ h => by rw [h]))
def d_sura : Nat → (Nat → CS → Option ((Nat ⊕ Nat) × CS)) × (Nat → CS → Option ((Nat ⊕ Nat) × CS))
  | 0 => (fun _ _ => none, fun _ _ => none)
  | d + 1 => (f_x_X2_sum (d_sura d).1 (d_sura d).2, f_x_X2_atom (d_sura d).1 (d_sura d).2)
def d_su (d : Nat) : Nat → CS → Option ((Nat ⊕ Nat) × CS) := (d_sura d).1
def d_ra (d : Nat) : Nat → CS → Option ((Nat ⊕ Nat) × CS) := (d_sura d).2
theorem all_sura {D : CD} {P : CP} : ∀ d, DSU D P d (d_sura d).1 ∧ DRA D P d (d_sura d).2
  | 0 => ⟨fun l x0 τ o h => (by cases h), fun l x0 τ o h => (by cases h)⟩
  | d + 1 => by
    obtain ⟨h1, h2⟩ := all_sura (D := D) (P := P) d
    refine ⟨fun l x0 τ o h => ?_, fun l x0 τ o h => ?_⟩
    · have hm := met_f_x_X2_sum l h1 h2 (show f_x_X2_sum (d_sura d).1 (d_sura d).2 x0 τ = some o from h)
      rw [show 28 + 6 * d = 22 + 6 * (d + 1) by omega] at hm
      exact hm
    · have hm := met_f_x_X2_atom l h1 h2 (show f_x_X2_atom (d_sura d).1 (d_sura d).2 x0 τ = some o from h)
      rw [show 26 + 6 * d = 20 + 6 * (d + 1) by omega] at hm
      exact hm
theorem all_su {D : CD} {P : CP} (d : Nat) : DSU D P d (d_su d) := (all_sura d).1
theorem all_ra {D : CD} {P : CP} (d : Nat) : DRA D P d (d_ra d) := (all_sura d).2
def DTE (D : CD) (P : CP) (d : Nat) (f : Nat → CS → Option ((Nat ⊕ Nat) × CS)) : Prop := ∀ (l : Launch) (x0 : Nat) (τ : CS) (o_ : (Nat ⊕ Nat) × CS), f x0 τ = some o_ → xMetX (wC D P) l yX2_test (ws_ yX2_test cX2_test 2 (some (.object "BentRiver$Test"))) (82 + 6 * d) (60 * (82 + 6 * d)) (grc τ.1) (grs τ.1) [.ref x0] τ (xzR o_.1, o_.2)
def DFA (D : CD) (P : CP) (d : Nat) (f : Nat → CS → Option ((Nat ⊕ Nat) × CS)) : Prop := ∀ (l : Launch) (x0 : Nat) (τ : CS) (o_ : (Nat ⊕ Nat) × CS), f x0 τ = some o_ → xMetX (wC D P) l yX2_fact (ws_ yX2_fact cX2_fact 3 (some (.object "BentRiver$Test"))) (80 + 6 * d) (60 * (80 + 6 * d)) (grc τ.1) (grs τ.1) [.ref x0] τ (xzR o_.1, o_.2)
theorem hd_f_x_X2_test : yX2_test.cls ≠ "java/lang/invoke/MethodHandle" ∧ yX2_test.cls ≠ "java/lang/invoke/VarHandle" ∧ (parseMethodDescriptor yX2_test.desc).map (fun d => d.parameters.length) = some 0 := by decide +kernel
theorem call_p_te_X2_224_r {D : CD} {P : CP} {K : xK} {M : xM} {Q : State → Prop} {τ τ1 : CS} {x0 d_ r : Nat} {f_ : Nat → CS → Option ((Nat ⊕ Nat) × CS)} {pc : Nat} {loc : List (Nat × Value)} {st : List Value} (H : DTE D P d_ f_) (hf : f_ x0 τ = some (.inl r, τ1)) (hr : gK τ.1 x0 = 3) (ho : M.2.2.1 = RX2) (hfr : 82 + 6 * d_ + 1 ≤ M.2.2.2.1) (hlo : 60 * (82 + 6 * d_) + 60 ≤ M.2.2.2.2.1) (hcat : (st.map fun v => v.category).sum ≤ 8) (d : decode M.1 pc = .ok (.invokevirtual 224, 3)) (k : xV (wC D P) K M Q τ1 (pc + 3) loc (.ref r :: st)) : xV (wC D P) K M Q τ pc loc (.ref x0 :: st) :=
  yc_callVX (g := τ.1) (c := τ.2) (Z := (.inl (some (.ref r)), τ1)) (As := []) (rest := st) (H K.2.1 _ _ _ hf) (lw_V q1171 q1173 qs30 q179 q1174) ⟨rfl, hd_f_x_X2_test⟩ ho hfr (by omega) rfl hr (by decide) (by decide) rfl rfl hcat d (yx_ret (v := some (.ref r)) k) yx_noT
theorem call_p_te_X2_224_t {D : CD} {P : CP} {K : xK} {M : xM} {Q : State → Prop} {τ τ1 : CS} {x0 d_ r : Nat} {f_ : Nat → CS → Option ((Nat ⊕ Nat) × CS)} {pc : Nat} {loc : List (Nat × Value)} {st : List Value} (H : DTE D P d_ f_) (hf : f_ x0 τ = some (.inr r, τ1)) (hr : gK τ.1 x0 = 3) (ho : M.2.2.1 = RX2) (hfr : 82 + 6 * d_ + 1 ≤ M.2.2.2.1) (hlo : 60 * (82 + 6 * d_) + 60 ≤ M.2.2.2.2.1) (hcat : (st.map fun v => v.category).sum ≤ 8) (d : decode M.1 pc = .ok (.invokevirtual 224, 3)) (k : xT (wC D P) K M Q τ1 pc loc r) : xV (wC D P) K M Q τ pc loc (.ref x0 :: st) :=
  yc_callVX (g := τ.1) (c := τ.2) (Z := (.inr r, τ1)) (As := []) (rest := st) (H K.2.1 _ _ _ hf) (lw_V q1171 q1173 qs30 q179 q1174) ⟨rfl, hd_f_x_X2_test⟩ ho hfr (by omega) rfl hr (by decide) (by decide) rfl rfl hcat d yx_noR (yx_thr k)
theorem hd_f_x_X2_passes : yX2_passes.cls ≠ "java/lang/invoke/MethodHandle" ∧ yX2_passes.cls ≠ "java/lang/invoke/VarHandle" ∧ (parseMethodDescriptor yX2_passes.desc).map (fun d => d.parameters.length) = some 1 := by decide +kernel
theorem call_f_x_X2_passes_X2_297_r {D : CD} {P : CP} {K : xK} {M : xM} {Q : State → Prop} {τ τ1 : CS} {x0 : Nat} {x1 : Nat} {pc : Nat} {loc : List (Nat × Value)} {st : List Value} {r : Int32} (hf : f_x_X2_passes x0 x1 τ = some (.inl r, τ1)) (hr : gK τ.1 x0 = 3) (ho : M.2.2.1 = RX2) (hfr : 10 ≤ M.2.2.2.1) (hlo : 562 ≤ M.2.2.2.2.1) (hcat : (st.map fun v => v.category).sum ≤ 8) (d : decode M.1 pc = .ok (.invokevirtual 297, 3)) (k : xV (wC D P) K M Q τ1 (pc + 3) loc (.int r :: st)) : xV (wC D P) K M Q τ pc loc (.ref x1 :: .ref x0 :: st) :=
  yc_callVX (g := τ.1) (c := τ.2) (Z := (.inl (some (.int r)), τ1)) (As := [.ref x1]) (rest := st) (met_f_x_X2_passes K.2.1 hf) (lw_V q1203 q1205 qs33 q179 q1206) ⟨rfl, hd_f_x_X2_passes⟩ ho hfr hlo rfl hr (by decide) (by decide) rfl rfl hcat d (yx_ret (v := some (.int r)) k) yx_noT
theorem call_f_x_X2_passes_X2_297_t {D : CD} {P : CP} {K : xK} {M : xM} {Q : State → Prop} {τ τ1 : CS} {x0 : Nat} {x1 : Nat} {pc : Nat} {loc : List (Nat × Value)} {st : List Value} {q : Nat} (hf : f_x_X2_passes x0 x1 τ = some (.inr q, τ1)) (hr : gK τ.1 x0 = 3) (ho : M.2.2.1 = RX2) (hfr : 10 ≤ M.2.2.2.1) (hlo : 562 ≤ M.2.2.2.2.1) (hcat : (st.map fun v => v.category).sum ≤ 8) (d : decode M.1 pc = .ok (.invokevirtual 297, 3)) (k : xT (wC D P) K M Q τ1 pc loc q) : xV (wC D P) K M Q τ pc loc (.ref x1 :: .ref x0 :: st) :=
  yc_callVX (g := τ.1) (c := τ.2) (Z := (.inr q, τ1)) (As := [.ref x1]) (rest := st) (met_f_x_X2_passes K.2.1 hf) (lw_V q1203 q1205 qs33 q179 q1206) ⟨rfl, hd_f_x_X2_passes⟩ ho hfr hlo rfl hr (by decide) (by decide) rfl rfl hcat d yx_noR (yx_thr k)
theorem hd_f_a_X18_init : yX18_init.cls ≠ "java/lang/invoke/MethodHandle" ∧ yX18_init.cls ≠ "java/lang/invoke/VarHandle" ∧ (parseMethodDescriptor yX18_init.desc).map (fun d => d.parameters.length) = some 3 := by decide +kernel
theorem call_f_a_X18_init_X2_319 {D : CD} {P : CP} {K : xK} {M : xM} {Q : State → Prop} {τ τ1 : CS} {x0 : Nat} {x1 : Nat} {x2 : Int32} {x3 : Nat} {pc : Nat} {loc : List (Nat × Value)} {st : List Value} (hf : f_a_X18_init x0 x1 x2 x3 τ = some τ1) (ho : M.2.2.1 = RX2) (hfr : 3 ≤ M.2.2.2.1) (hlo : 143 ≤ M.2.2.2.2.1) (hcat : (st.map fun v => v.category).sum ≤ 8) (d : decode M.1 pc = .ok (.invokespecial 319, 3)) (k : xV (wC D P) K M Q τ1 (pc + 3) loc st) : xV (wC D P) K M Q τ pc loc (.ref x3 :: .int x2 :: .ref x1 :: .ref x0 :: st) :=
  yc_callI (g := τ.1) (c := τ.2) (g1 := τ1.1) (c1 := τ1.2) (As := [.ref x1, .int x2, .ref x3]) (rest := st) (met_f_a_X18_init K.2.1 hf) (lw_meth q1229) q1227 q1228 q209 rfl hd_f_a_X18_init ho hfr hlo rfl rfl hcat d k
theorem hd_f_a_X17_init : yX17_init.cls ≠ "java/lang/invoke/MethodHandle" ∧ yX17_init.cls ≠ "java/lang/invoke/VarHandle" ∧ (parseMethodDescriptor yX17_init.desc).map (fun d => d.parameters.length) = some 0 := by decide +kernel
theorem call_f_a_X17_init_X2_316 {D : CD} {P : CP} {K : xK} {M : xM} {Q : State → Prop} {τ τ1 : CS} {x0 : Nat} {pc : Nat} {loc : List (Nat × Value)} {st : List Value} (hf : f_a_X17_init x0 τ = some τ1) (ho : M.2.2.1 = RX2) (hfr : 3 ≤ M.2.2.2.1) (hlo : 140 ≤ M.2.2.2.2.1) (hcat : (st.map fun v => v.category).sum ≤ 8) (d : decode M.1 pc = .ok (.invokespecial 316, 3)) (k : xV (wC D P) K M Q τ1 (pc + 3) loc st) : xV (wC D P) K M Q τ pc loc (.ref x0 :: st) :=
  yc_callIN (g := τ.1) (c := τ.2) (g1 := τ1.1) (c1 := τ1.2) (As := []) (rest := st) (met_f_a_X17_init K.2.1 hf) (lw_meth q1222) q1220 q1221 q208 rfl hd_f_a_X17_init ho hfr hlo rfl rfl hcat d k
theorem hd_f_x_X2_fact : yX2_fact.cls ≠ "java/lang/invoke/MethodHandle" ∧ yX2_fact.cls ≠ "java/lang/invoke/VarHandle" ∧ (parseMethodDescriptor yX2_fact.desc).map (fun d => d.parameters.length) = some 0 := by decide +kernel
theorem call_p_fa_X2_300_r {D : CD} {P : CP} {K : xK} {M : xM} {Q : State → Prop} {τ τ1 : CS} {x0 d_ r : Nat} {f_ : Nat → CS → Option ((Nat ⊕ Nat) × CS)} {pc : Nat} {loc : List (Nat × Value)} {st : List Value} (H : DFA D P d_ f_) (hf : f_ x0 τ = some (.inl r, τ1)) (hr : gK τ.1 x0 = 3) (ho : M.2.2.1 = RX2) (hfr : 80 + 6 * d_ + 1 ≤ M.2.2.2.1) (hlo : 60 * (80 + 6 * d_) + 60 ≤ M.2.2.2.2.1) (hcat : (st.map fun v => v.category).sum ≤ 8) (d : decode M.1 pc = .ok (.invokevirtual 300, 3)) (k : xV (wC D P) K M Q τ1 (pc + 3) loc (.ref r :: st)) : xV (wC D P) K M Q τ pc loc (.ref x0 :: st) :=
  yc_callVX (g := τ.1) (c := τ.2) (Z := (.inl (some (.ref r)), τ1)) (As := []) (rest := st) (H K.2.1 _ _ _ hf) (lw_V q1198 q1200 qs32 q179 q1201) ⟨rfl, hd_f_x_X2_fact⟩ ho hfr (by omega) rfl hr (by decide) (by decide) rfl rfl hcat d (yx_ret (v := some (.ref r)) k) yx_noT
theorem call_p_fa_X2_300_t {D : CD} {P : CP} {K : xK} {M : xM} {Q : State → Prop} {τ τ1 : CS} {x0 d_ r : Nat} {f_ : Nat → CS → Option ((Nat ⊕ Nat) × CS)} {pc : Nat} {loc : List (Nat × Value)} {st : List Value} (H : DFA D P d_ f_) (hf : f_ x0 τ = some (.inr r, τ1)) (hr : gK τ.1 x0 = 3) (ho : M.2.2.1 = RX2) (hfr : 80 + 6 * d_ + 1 ≤ M.2.2.2.1) (hlo : 60 * (80 + 6 * d_) + 60 ≤ M.2.2.2.2.1) (hcat : (st.map fun v => v.category).sum ≤ 8) (d : decode M.1 pc = .ok (.invokevirtual 300, 3)) (k : xT (wC D P) K M Q τ1 pc loc r) : xV (wC D P) K M Q τ pc loc (.ref x0 :: st) :=
  yc_callVX (g := τ.1) (c := τ.2) (Z := (.inr r, τ1)) (As := []) (rest := st) (H K.2.1 _ _ _ hf) (lw_V q1198 q1200 qs32 q179 q1201) ⟨rfl, hd_f_x_X2_fact⟩ ho hfr (by omega) rfl hr (by decide) (by decide) rfl rfl hcat d yx_noR (yx_thr k)
theorem hd_f_a_X16_init : yX16_init.cls ≠ "java/lang/invoke/MethodHandle" ∧ yX16_init.cls ≠ "java/lang/invoke/VarHandle" ∧ (parseMethodDescriptor yX16_init.desc).map (fun d => d.parameters.length) = some 1 := by decide +kernel
theorem call_f_a_X16_init_X2_309 {D : CD} {P : CP} {K : xK} {M : xM} {Q : State → Prop} {τ τ1 : CS} {x0 : Nat} {x1 : Nat} {pc : Nat} {loc : List (Nat × Value)} {st : List Value} (hf : f_a_X16_init x0 x1 τ = some τ1) (ho : M.2.2.1 = RX2) (hfr : 3 ≤ M.2.2.2.1) (hlo : 141 ≤ M.2.2.2.2.1) (hcat : (st.map fun v => v.category).sum ≤ 8) (d : decode M.1 pc = .ok (.invokespecial 309, 3)) (k : xV (wC D P) K M Q τ1 (pc + 3) loc st) : xV (wC D P) K M Q τ pc loc (.ref x1 :: .ref x0 :: st) :=
  yc_callI (g := τ.1) (c := τ.2) (g1 := τ1.1) (c1 := τ1.2) (As := [.ref x1]) (rest := st) (met_f_a_X16_init K.2.1 hf) (lw_meth q1211) q1209 q1210 q207 rfl hd_f_a_X16_init ho hfr hlo rfl rfl hcat d k
abbrev mX2_fact (d_ : Nat) : xM := (cX2_fact, 3, RX2, (86 + 6 * d_), (60 * (86 + 6 * d_)), (some (.object "BentRiver$Test")), "fact")
def Jc_X2_fact_148 (te_ : Nat → CS → Option ((Nat ⊕ Nat) × CS)) (fa_ : Nat → CS → Option ((Nat ⊕ Nat) × CS)) (x0 : Nat) (x1 : Nat) (x2 : Int32) (τ : CS) : Option ((Nat ⊕ Nat) × CS) :=
  if gT τ.1 x0 = 3 then
  xbd (aNew 16 (τ.1, uI τ.2 302 x0 ((cI τ.2 302 x0) + 1))) fun r20 τ20 =>
  if gT τ20.1 x0 = 3 then
  xbx (d_su 8 x0 τ20) (fun r22 τ22 =>
  (f_a_X18_init r20 x1 x2 r22 τ22).bind fun τ23 =>
  some ((.inl r20, τ23))) (fun q24 τ24 => some ((.inr q24, τ24)))
  else none
  else none
theorem ok_Jc_X2_fact_148 {D : CD} {P : CP} {K : xK} (hno : xNoT K) {d_ : Nat} {te_ : Nat → CS → Option ((Nat ⊕ Nat) × CS)} {fa_ : Nat → CS → Option ((Nat ⊕ Nat) × CS)} (Hte : DTE D P d_ te_) (Hfa : DFA D P d_ fa_) {Z : (Option Value ⊕ Nat) × CS} {x0 : Nat} {x1 : Nat} {x2 : Int32} {τ : CS} {o_ : ((Nat ⊕ Nat) × CS)} (hf : Jc_X2_fact_148 te_ fa_ x0 x1 x2 τ = some o_) (kr : ∀ r_ : ((Nat ⊕ Nat) × CS), o_ = r_ → Z = (xzR r_.1, r_.2)) : xV (wC D P) K (mX2_fact d_) (xQX (wC D P) K Z) τ 148 [(0, .ref x0), (1, .ref x1), (2, .int x2)] [] := by
  unfold Jc_X2_fact_148 at hf
  refine xr_aload_n (pc := 148) 0 dX2_fact_148 rfl rfl ?_
  refine xr_dup (pc := 149) dX2_fact_149 rfl ?_
  obtain ⟨ht19, hf⟩ := xo_if hf
  refine yc_getI (pc := 150) 3 2 302 (gKo ht19 (by decide)) (by decide) (by decide) (by decide) rfl rfl q390 (ys_eq rfl) rfl dX2_fact_150 ?_
  refine xr_iconst (pc := 153) dX2_fact_153 xci_1 ?_
  refine xr_iadd (pc := 154) dX2_fact_154 ?_
  refine yc_putI (pc := 155) 3 2 302 ht19 (by decide) (by decide) (by decide) rfl rfl rfl (ty := .int) (by decide +kernel) rfl rfl q390 (ys_eq rfl) rfl dX2_fact_155 ?_
  obtain ⟨r20, τ20, hτ20, hf⟩ := xo_bd hf
  refine yc_aNew (pc := 158) 16 (by decide) (by decide) q1225 q1226 q209 hτ20 rfl dX2_fact_158 ?_
  refine xr_dup (pc := 161) dX2_fact_161 rfl ?_
  refine xr_aload_n (pc := 162) 1 dX2_fact_162 rfl rfl ?_
  refine xr_iload_n (pc := 163) 2 dX2_fact_163 rfl rfl ?_
  refine xr_aload_n (pc := 164) 0 dX2_fact_164 rfl rfl ?_
  obtain ⟨ht21, hf⟩ := xo_if hf
  rcases xo_bx hf with ⟨r22, τ22, hτ22, hf⟩ | ⟨q24, τ24, hτ24, hf⟩
  · refine call_p_su_X2_217_r (pc := 165) (all_su 8) hτ22 (gKo ht21 (by decide)) rfl (by show 22 + 6 * 8 + 1 ≤ 86 + 6 * d_; omega) (by show 60 * (22 + 6 * 8) + 60 ≤ 60 * (86 + 6 * d_); omega) (Nat.le_of_ble_eq_true rfl) dX2_fact_165 ?_
    obtain ⟨τ23, hτ23, hf⟩ := xo_bind hf
    refine call_f_a_X18_init_X2_319 (pc := 168) hτ23 rfl (by show 3 ≤ 86 + 6 * d_; omega) (by show 143 ≤ 60 * (86 + 6 * d_); omega) (Nat.le_of_ble_eq_true rfl) dX2_fact_168 ?_
    rw [kr _ (Option.some.inj hf).symm]
    exact xV_ret (xr_aret (pc := 171) dX2_fact_171 rfl (Or.inl ⟨_, rfl⟩))
  · refine call_p_su_X2_217_t (pc := 165) (all_su 8) hτ24 (gKo ht21 (by decide)) rfl (by show 22 + 6 * 8 + 1 ≤ 86 + 6 * d_; omega) (by show 60 * (22 + 6 * 8) + 60 ≤ 60 * (86 + 6 * d_); omega) (Nat.le_of_ble_eq_true rfl) dX2_fact_165 ?_
    rw [kr _ (Option.some.inj hf).symm]
    exact xT_out hno
def f_x_X2_fact (te_ : Nat → CS → Option ((Nat ⊕ Nat) × CS)) (fa_ : Nat → CS → Option ((Nat ⊕ Nat) × CS)) (x0 : Nat) (τ : CS) : Option ((Nat ⊕ Nat) × CS) :=
  if gT τ.1 x0 = 3 then
  xbd (f_c_X2_here τ.1 x0 τ.2) fun r2 τ2 =>
  if r2 = 91 then
  xbx (f_x_X2_opens x0 (cI τ2 302 x0) (τ.1, τ2)) (fun r3 τ3 =>
  if gT τ3.1 x0 = 3 then
  xbx (te_ x0 (τ3.1, uI τ3.2 302 x0 ((cI τ3.2 302 x0) + 1))) (fun r5 τ5 =>
  if gT τ5.1 x0 = 3 then
  xbx (f_x_X2_must x0 93 τ5) (fun r7 τ7 =>
  if gT τ7.1 x0 = 3 then
  some ((.inl r5, (τ7.1, uI τ7.2 304 x0 ((cI τ7.2 304 x0) - 1))))
  else none) (fun q9 τ9 => some ((.inr q9, τ9)))
  else none) (fun q10 τ10 => some ((.inr q10, τ10)))
  else none) (fun q11 τ11 => some ((.inr q11, τ11)))
  else
  xbx (f_x_X2_passes x0 (gA τ.1 0 117) (τ.1, τ2)) (fun r12 τ12 =>
  if r12 = 0 then
  if gT τ12.1 x0 = 3 then
  xbx (f_x_X2_passes x0 (gA τ12.1 0 118) τ12) (fun r14 τ14 =>
  if r14 = 0 then
  if gT τ14.1 x0 = 3 then
  xbx (d_su 8 x0 τ14) (fun r16 τ16 =>
  if gT τ16.1 x0 = 3 then
  xbd (f_c_X2_here τ16.1 x0 τ16.2) fun r18 τ18 =>
  if r18 = 60 then
  Jc_X2_fact_148 te_ fa_ x0 r16 r18 (τ16.1, τ18)
  else
  if r18 = 62 then
  Jc_X2_fact_148 te_ fa_ x0 r16 r18 (τ16.1, τ18)
  else
  if r18 = 61 then
  Jc_X2_fact_148 te_ fa_ x0 r16 r18 (τ16.1, τ18)
  else
  xbd (f_c_X2_wrong τ16.1 x0 1 (cI τ18 302 x0) τ18) fun r25 τ25 =>
  if gT τ16.1 r25 = 4 then
  some ((.inr r25, (τ16.1, τ25)))
  else none
  else none) (fun q27 τ27 => some ((.inr q27, τ27)))
  else none
  else
  xbd (aNew 15 τ14) fun r28 τ28 =>
  (f_a_X17_init r28 τ28).bind fun τ29 =>
  some ((.inl r28, τ29))) (fun q30 τ30 => some ((.inr q30, τ30)))
  else none
  else
  if gT τ12.1 x0 = 3 then
  xbx (f_x_X2_opens x0 (cI τ12.2 303 x0) τ12) (fun r32 τ32 =>
  xbd (aNew 14 τ32) fun r33 τ33 =>
  if gT τ33.1 x0 = 3 then
  xbx (fa_ x0 τ33) (fun r35 τ35 =>
  (f_a_X16_init r33 r35 τ35).bind fun τ36 =>
  if gT τ36.1 x0 = 3 then
  some ((.inl r33, (τ36.1, uI τ36.2 304 x0 ((cI τ36.2 304 x0) - 1))))
  else none) (fun q38 τ38 => some ((.inr q38, τ38)))
  else none) (fun q39 τ39 => some ((.inr q39, τ39)))
  else none) (fun q40 τ40 => some ((.inr q40, τ40)))
  else none
theorem ok_f_x_X2_fact {D : CD} {P : CP} {K : xK} (hno : xNoT K) {d_ : Nat} {te_ : Nat → CS → Option ((Nat ⊕ Nat) × CS)} {fa_ : Nat → CS → Option ((Nat ⊕ Nat) × CS)} (Hte : DTE D P d_ te_) (Hfa : DFA D P d_ fa_) {Z : (Option Value ⊕ Nat) × CS} {x0 : Nat} {τ : CS} {o_ : ((Nat ⊕ Nat) × CS)} (hf : f_x_X2_fact te_ fa_ x0 τ = some o_) (kr : ∀ r_ : ((Nat ⊕ Nat) × CS), o_ = r_ → Z = (xzR r_.1, r_.2)) : xV (wC D P) K (mX2_fact d_) (xQX (wC D P) K Z) τ 0 [(0, .ref x0)] [] := by
  unfold f_x_X2_fact at hf
  refine xr_aload_n (pc := 0) 0 dX2_fact_0 rfl rfl ?_
  obtain ⟨ht1, hf⟩ := xo_if hf
  obtain ⟨r2, τ2, hτ2, hf⟩ := xo_bd hf
  refine call_f_c_X2_here_X2_43 (pc := 1) hτ2 (gKo ht1 (by decide)) rfl (by show 2 ≤ 86 + 6 * d_; omega) (by show 80 ≤ 60 * (86 + 6 * d_); omega) (Nat.le_of_ble_eq_true rfl) dX2_fact_1 ?_
  refine xr_bipush (pc := 4) dX2_fact_4 xcb_91 ?_
  refine xr_icmp_ne (pc := 6) 50 dX2_fact_6 (by decide) (fun c_ => ?_) (fun c_ => ?_)
  · have hf := xo_pos c_ hf
    refine xr_aload_n (pc := 9) 0 dX2_fact_9 rfl rfl ?_
    refine xr_aload_n (pc := 10) 0 dX2_fact_10 rfl rfl ?_
    refine yc_getI (pc := 11) 3 2 302 (gKo ht1 (by decide)) (by decide) (by decide) (by decide) rfl rfl q390 (ys_eq rfl) rfl dX2_fact_11 ?_
    rcases xo_bx hf with ⟨r3, τ3, hτ3, hf⟩ | ⟨q11, τ11, hτ11, hf⟩
    · refine call_f_x_X2_opens_X2_245_r (pc := 14) hτ3 (gKo ht1 (by decide)) rfl (by show 2 ≤ 86 + 6 * d_; omega) (by show 81 ≤ 60 * (86 + 6 * d_); omega) (Nat.le_of_ble_eq_true rfl) dX2_fact_14 ?_
      refine xr_aload_n (pc := 17) 0 dX2_fact_17 rfl rfl ?_
      refine xr_dup (pc := 18) dX2_fact_18 rfl ?_
      obtain ⟨ht4, hf⟩ := xo_if hf
      refine yc_getI (pc := 19) 3 2 302 (gKo ht4 (by decide)) (by decide) (by decide) (by decide) rfl rfl q390 (ys_eq rfl) rfl dX2_fact_19 ?_
      refine xr_iconst (pc := 22) dX2_fact_22 xci_1 ?_
      refine xr_iadd (pc := 23) dX2_fact_23 ?_
      refine yc_putI (pc := 24) 3 2 302 ht4 (by decide) (by decide) (by decide) rfl rfl rfl (ty := .int) (by decide +kernel) rfl rfl q390 (ys_eq rfl) rfl dX2_fact_24 ?_
      refine xr_aload_n (pc := 27) 0 dX2_fact_27 rfl rfl ?_
      rcases xo_bx hf with ⟨r5, τ5, hτ5, hf⟩ | ⟨q10, τ10, hτ10, hf⟩
      · refine call_p_te_X2_224_r (pc := 28) Hte hτ5 (gKo ht4 (by decide)) rfl (by show 82 + 6 * d_ + 1 ≤ 86 + 6 * d_; omega) (by show 60 * (82 + 6 * d_) + 60 ≤ 60 * (86 + 6 * d_); omega) (Nat.le_of_ble_eq_true rfl) dX2_fact_28 ?_
        refine xr_astore_n (pc := 31) (loc' := [(1, .ref r5), (0, .ref x0)]) dX2_fact_31 rfl (by show 1 < 3; decide) rfl ?_
        refine xr_aload_n (pc := 32) 1 dX2_fact_32 rfl rfl ?_
        refine xr_bipush (pc := 33) dX2_fact_33 xcb_93 ?_
        obtain ⟨ht6, hf⟩ := xo_if hf
        rcases xo_bx hf with ⟨r7, τ7, hτ7, hf⟩ | ⟨q9, τ9, hτ9, hf⟩
        · refine call_f_x_X2_must_X2_127_r (pc := 35) hτ7 (gKo ht6 (by decide)) rfl (by show 3 ≤ 86 + 6 * d_; omega) (by show 141 ≤ 60 * (86 + 6 * d_); omega) (Nat.le_of_ble_eq_true rfl) dX2_fact_35 ?_
          refine xr_aload_n (pc := 38) 1 dX2_fact_38 rfl rfl ?_
          refine xr_dup (pc := 39) dX2_fact_39 rfl ?_
          obtain ⟨ht8, hf⟩ := xo_if hf
          refine yc_getI (pc := 40) 3 4 304 (gKo ht8 (by decide)) (by decide) (by decide) (by decide) rfl rfl q392 (ys_eq rfl) rfl dX2_fact_40 ?_
          refine xr_iconst (pc := 43) dX2_fact_43 xci_1 ?_
          refine xr_isub (pc := 44) dX2_fact_44 ?_
          refine yc_putI (pc := 45) 3 4 304 ht8 (by decide) (by decide) (by decide) rfl rfl rfl (ty := .int) (by decide +kernel) rfl rfl q392 (ys_eq rfl) rfl dX2_fact_45 ?_
          refine xr_aload_n (pc := 48) 0 dX2_fact_48 rfl rfl ?_
          rw [kr _ (Option.some.inj hf).symm]
          exact xV_ret (xr_aret (pc := 49) dX2_fact_49 rfl (Or.inl ⟨_, rfl⟩))
        · refine call_f_x_X2_must_X2_127_t (pc := 35) hτ9 (gKo ht6 (by decide)) rfl (by show 3 ≤ 86 + 6 * d_; omega) (by show 141 ≤ 60 * (86 + 6 * d_); omega) (Nat.le_of_ble_eq_true rfl) dX2_fact_35 ?_
          rw [kr _ (Option.some.inj hf).symm]
          exact xT_out hno
      · refine call_p_te_X2_224_t (pc := 28) Hte hτ10 (gKo ht4 (by decide)) rfl (by show 82 + 6 * d_ + 1 ≤ 86 + 6 * d_; omega) (by show 60 * (82 + 6 * d_) + 60 ≤ 60 * (86 + 6 * d_); omega) (Nat.le_of_ble_eq_true rfl) dX2_fact_28 ?_
        rw [kr _ (Option.some.inj hf).symm]
        exact xT_out hno
    · refine call_f_x_X2_opens_X2_245_t (pc := 14) hτ11 (gKo ht1 (by decide)) rfl (by show 2 ≤ 86 + 6 * d_; omega) (by show 81 ≤ 60 * (86 + 6 * d_); omega) (Nat.le_of_ble_eq_true rfl) dX2_fact_14 ?_
      rw [kr _ (Option.some.inj hf).symm]
      exact xT_out hno
  · have hf := xo_neg c_ hf
    refine xr_aload_n (pc := 50) 0 dX2_fact_50 rfl rfl ?_
    refine yc_ldcSw (pc := 51) 17 (by decide) rfl rfl dX2_fact_51 ?_
    rcases xo_bx hf with ⟨r12, τ12, hτ12, hf⟩ | ⟨q40, τ40, hτ40, hf⟩
    · refine call_f_x_X2_passes_X2_297_r (pc := 54) hτ12 (gKo ht1 (by decide)) rfl (by show 10 ≤ 86 + 6 * d_; omega) (by show 562 ≤ 60 * (86 + 6 * d_); omega) (Nat.le_of_ble_eq_true rfl) dX2_fact_54 ?_
      refine xr_if_eq (pc := 57) 92 dX2_fact_57 (by decide) (fun c_ => ?_) (fun c_ => ?_)
      · have hf := xo_pos c_ hf
        refine xr_aload_n (pc := 92) 0 dX2_fact_92 rfl rfl ?_
        refine yc_ldcSw (pc := 93) 18 (by decide) rfl rfl dX2_fact_93 ?_
        obtain ⟨ht13, hf⟩ := xo_if hf
        rcases xo_bx hf with ⟨r14, τ14, hτ14, hf⟩ | ⟨q30, τ30, hτ30, hf⟩
        · refine call_f_x_X2_passes_X2_297_r (pc := 96) hτ14 (gKo ht13 (by decide)) rfl (by show 10 ≤ 86 + 6 * d_; omega) (by show 562 ≤ 60 * (86 + 6 * d_); omega) (Nat.le_of_ble_eq_true rfl) dX2_fact_96 ?_
          refine xr_if_eq (pc := 99) 110 dX2_fact_99 (by decide) (fun c_ => ?_) (fun c_ => ?_)
          · have hf := xo_pos c_ hf
            refine xr_aload_n (pc := 110) 0 dX2_fact_110 rfl rfl ?_
            obtain ⟨ht15, hf⟩ := xo_if hf
            rcases xo_bx hf with ⟨r16, τ16, hτ16, hf⟩ | ⟨q27, τ27, hτ27, hf⟩
            · refine call_p_su_X2_217_r (pc := 111) (all_su 8) hτ16 (gKo ht15 (by decide)) rfl (by show 22 + 6 * 8 + 1 ≤ 86 + 6 * d_; omega) (by show 60 * (22 + 6 * 8) + 60 ≤ 60 * (86 + 6 * d_); omega) (Nat.le_of_ble_eq_true rfl) dX2_fact_111 ?_
              refine xr_astore_n (pc := 114) (loc' := [(1, .ref r16), (0, .ref x0)]) dX2_fact_114 rfl (by show 1 < 3; decide) rfl ?_
              refine xr_aload_n (pc := 115) 1 dX2_fact_115 rfl rfl ?_
              obtain ⟨ht17, hf⟩ := xo_if hf
              obtain ⟨r18, τ18, hτ18, hf⟩ := xo_bd hf
              refine call_f_c_X2_here_X2_43 (pc := 116) hτ18 (gKo ht17 (by decide)) rfl (by show 2 ≤ 86 + 6 * d_; omega) (by show 80 ≤ 60 * (86 + 6 * d_); omega) (Nat.le_of_ble_eq_true rfl) dX2_fact_116 ?_
              refine xr_istore_n (pc := 119) (loc' := [(2, .int r18), (1, .ref r16), (0, .ref x0)]) dX2_fact_119 rfl (by show 2 < 3; decide) rfl ?_
              refine xr_iload_n (pc := 120) 0 dX2_fact_120 rfl rfl ?_
              refine xr_bipush (pc := 121) dX2_fact_121 xcb_60 ?_
              refine xr_icmp_eq (pc := 123) 148 dX2_fact_123 (by decide) (fun c_ => ?_) (fun c_ => ?_)
              · have hf := xo_pos c_ hf
                refine xV_sub [2, 1, 0] rfl ?_
                exact ok_Jc_X2_fact_148 hno Hte Hfa hf kr
              · have hf := xo_neg c_ hf
                refine xr_iload_n (pc := 126) 0 dX2_fact_126 rfl rfl ?_
                refine xr_bipush (pc := 127) dX2_fact_127 xcb_62 ?_
                refine xr_icmp_eq (pc := 129) 148 dX2_fact_129 (by decide) (fun c_ => ?_) (fun c_ => ?_)
                · have hf := xo_pos c_ hf
                  refine xV_sub [2, 1, 0] rfl ?_
                  exact ok_Jc_X2_fact_148 hno Hte Hfa hf kr
                · have hf := xo_neg c_ hf
                  refine xr_iload_n (pc := 132) 0 dX2_fact_132 rfl rfl ?_
                  refine xr_bipush (pc := 133) dX2_fact_133 xcb_61 ?_
                  refine xr_icmp_eq (pc := 135) 148 dX2_fact_135 (by decide) (fun c_ => ?_) (fun c_ => ?_)
                  · have hf := xo_pos c_ hf
                    refine xV_sub [2, 1, 0] rfl ?_
                    exact ok_Jc_X2_fact_148 hno Hte Hfa hf kr
                  · have hf := xo_neg c_ hf
                    refine xr_aload_n (pc := 138) 2 dX2_fact_138 rfl rfl ?_
                    refine xr_iconst (pc := 139) dX2_fact_139 xci_1 ?_
                    refine xr_aload_n (pc := 140) 2 dX2_fact_140 rfl rfl ?_
                    refine yc_getI (pc := 141) 3 2 302 (gKo ht17 (by decide)) (by decide) (by decide) (by decide) rfl rfl q390 (ys_eq rfl) rfl dX2_fact_141 ?_
                    obtain ⟨r25, τ25, hτ25, hf⟩ := xo_bd hf
                    refine call_f_c_X2_wrong_X2_47 (pc := 144) hτ25 (gKo ht17 (by decide)) rfl (by show 1 ≤ 86 + 6 * d_; omega) (by show 22 ≤ 60 * (86 + 6 * d_); omega) (Nat.le_of_ble_eq_true rfl) dX2_fact_144 ?_
                    obtain ⟨ht26, hf⟩ := xo_if hf
                    rw [kr _ (Option.some.inj hf).symm]
                    exact yc_athrow (pc := 147) (gKo ht26 (by decide)) (by decide) (by decide) rfl dX2_fact_147 (xT_out hno)
            · refine call_p_su_X2_217_t (pc := 111) (all_su 8) hτ27 (gKo ht15 (by decide)) rfl (by show 22 + 6 * 8 + 1 ≤ 86 + 6 * d_; omega) (by show 60 * (22 + 6 * 8) + 60 ≤ 60 * (86 + 6 * d_); omega) (Nat.le_of_ble_eq_true rfl) dX2_fact_111 ?_
              rw [kr _ (Option.some.inj hf).symm]
              exact xT_out hno
          · have hf := xo_neg c_ hf
            obtain ⟨r28, τ28, hτ28, hf⟩ := xo_bd hf
            refine yc_aNew (pc := 102) 15 (by decide) (by decide) q1218 q1219 q208 hτ28 rfl dX2_fact_102 ?_
            refine xr_dup (pc := 105) dX2_fact_105 rfl ?_
            obtain ⟨τ29, hτ29, hf⟩ := xo_bind hf
            refine call_f_a_X17_init_X2_316 (pc := 106) hτ29 rfl (by show 3 ≤ 86 + 6 * d_; omega) (by show 140 ≤ 60 * (86 + 6 * d_); omega) (Nat.le_of_ble_eq_true rfl) dX2_fact_106 ?_
            rw [kr _ (Option.some.inj hf).symm]
            exact xV_ret (xr_aret (pc := 109) dX2_fact_109 rfl (Or.inl ⟨_, rfl⟩))
        · refine call_f_x_X2_passes_X2_297_t (pc := 96) hτ30 (gKo ht13 (by decide)) rfl (by show 10 ≤ 86 + 6 * d_; omega) (by show 562 ≤ 60 * (86 + 6 * d_); omega) (Nat.le_of_ble_eq_true rfl) dX2_fact_96 ?_
          rw [kr _ (Option.some.inj hf).symm]
          exact xT_out hno
      · have hf := xo_neg c_ hf
        refine xr_aload_n (pc := 60) 0 dX2_fact_60 rfl rfl ?_
        refine xr_aload_n (pc := 61) 0 dX2_fact_61 rfl rfl ?_
        obtain ⟨ht31, hf⟩ := xo_if hf
        refine yc_getI (pc := 62) 3 3 303 (gKo ht31 (by decide)) (by decide) (by decide) (by decide) rfl rfl q391 (ys_eq rfl) rfl dX2_fact_62 ?_
        rcases xo_bx hf with ⟨r32, τ32, hτ32, hf⟩ | ⟨q39, τ39, hτ39, hf⟩
        · refine call_f_x_X2_opens_X2_245_r (pc := 65) hτ32 (gKo ht31 (by decide)) rfl (by show 2 ≤ 86 + 6 * d_; omega) (by show 81 ≤ 60 * (86 + 6 * d_); omega) (Nat.le_of_ble_eq_true rfl) dX2_fact_65 ?_
          obtain ⟨r33, τ33, hτ33, hf⟩ := xo_bd hf
          refine yc_aNew (pc := 68) 14 (by decide) (by decide) q1207 q1208 q207 hτ33 rfl dX2_fact_68 ?_
          refine xr_dup (pc := 71) dX2_fact_71 rfl ?_
          refine xr_aload_n (pc := 72) 0 dX2_fact_72 rfl rfl ?_
          obtain ⟨ht34, hf⟩ := xo_if hf
          rcases xo_bx hf with ⟨r35, τ35, hτ35, hf⟩ | ⟨q38, τ38, hτ38, hf⟩
          · refine call_p_fa_X2_300_r (pc := 73) Hfa hτ35 (gKo ht34 (by decide)) rfl (by show 80 + 6 * d_ + 1 ≤ 86 + 6 * d_; omega) (by show 60 * (80 + 6 * d_) + 60 ≤ 60 * (86 + 6 * d_); omega) (Nat.le_of_ble_eq_true rfl) dX2_fact_73 ?_
            obtain ⟨τ36, hτ36, hf⟩ := xo_bind hf
            refine call_f_a_X16_init_X2_309 (pc := 76) hτ36 rfl (by show 3 ≤ 86 + 6 * d_; omega) (by show 141 ≤ 60 * (86 + 6 * d_); omega) (Nat.le_of_ble_eq_true rfl) dX2_fact_76 ?_
            refine xr_astore_n (pc := 79) (loc' := [(1, .ref r33), (0, .ref x0)]) dX2_fact_79 rfl (by show 1 < 3; decide) rfl ?_
            refine xr_aload_n (pc := 80) 1 dX2_fact_80 rfl rfl ?_
            refine xr_dup (pc := 81) dX2_fact_81 rfl ?_
            obtain ⟨ht37, hf⟩ := xo_if hf
            refine yc_getI (pc := 82) 3 4 304 (gKo ht37 (by decide)) (by decide) (by decide) (by decide) rfl rfl q392 (ys_eq rfl) rfl dX2_fact_82 ?_
            refine xr_iconst (pc := 85) dX2_fact_85 xci_1 ?_
            refine xr_isub (pc := 86) dX2_fact_86 ?_
            refine yc_putI (pc := 87) 3 4 304 ht37 (by decide) (by decide) (by decide) rfl rfl rfl (ty := .int) (by decide +kernel) rfl rfl q392 (ys_eq rfl) rfl dX2_fact_87 ?_
            refine xr_aload_n (pc := 90) 0 dX2_fact_90 rfl rfl ?_
            rw [kr _ (Option.some.inj hf).symm]
            exact xV_ret (xr_aret (pc := 91) dX2_fact_91 rfl (Or.inl ⟨_, rfl⟩))
          · refine call_p_fa_X2_300_t (pc := 73) Hfa hτ38 (gKo ht34 (by decide)) rfl (by show 80 + 6 * d_ + 1 ≤ 86 + 6 * d_; omega) (by show 60 * (80 + 6 * d_) + 60 ≤ 60 * (86 + 6 * d_); omega) (Nat.le_of_ble_eq_true rfl) dX2_fact_73 ?_
            rw [kr _ (Option.some.inj hf).symm]
            exact xT_out hno
        · refine call_f_x_X2_opens_X2_245_t (pc := 65) hτ39 (gKo ht31 (by decide)) rfl (by show 2 ≤ 86 + 6 * d_; omega) (by show 81 ≤ 60 * (86 + 6 * d_); omega) (Nat.le_of_ble_eq_true rfl) dX2_fact_65 ?_
          rw [kr _ (Option.some.inj hf).symm]
          exact xT_out hno
    · refine call_f_x_X2_passes_X2_297_t (pc := 54) hτ40 (gKo ht1 (by decide)) rfl (by show 10 ≤ 86 + 6 * d_; omega) (by show 562 ≤ 60 * (86 + 6 * d_); omega) (Nat.le_of_ble_eq_true rfl) dX2_fact_54 ?_
      rw [kr _ (Option.some.inj hf).symm]
      exact xT_out hno
theorem met_f_x_X2_fact (l : Launch) {D : CD} {P : CP} {d_ : Nat} {te_ : Nat → CS → Option ((Nat ⊕ Nat) × CS)} {fa_ : Nat → CS → Option ((Nat ⊕ Nat) × CS)} (Hte : DTE D P d_ te_) (Hfa : DFA D P d_ fa_) {x0 : Nat} {τ : CS} {o_ : ((Nat ⊕ Nat) × CS)} (hf : f_x_X2_fact te_ fa_ x0 τ = some o_) : xMetX (wC D P) l yX2_fact (ws_ yX2_fact cX2_fact 3 (some (.object "BentRiver$Test"))) (86 + 6 * d_) (60 * (86 + 6 * d_)) (grc τ.1) (grs τ.1) [.ref x0] τ (xzR o_.1, o_.2) := 
  xMetX_of (by decide) (Nat.le_of_ble_eq_true rfl) KC_moved (RPC_of (g := τ.1) (c := τ.2)) (fun K _ _ _ hno => ok_f_x_X2_fact hno Hte Hfa hf (fun _ h => by rw [h]))
theorem hd_f_a_X15_init : yX15_init.cls ≠ "java/lang/invoke/MethodHandle" ∧ yX15_init.cls ≠ "java/lang/invoke/VarHandle" ∧ (parseMethodDescriptor yX15_init.desc).map (fun d => d.parameters.length) = some 1 := by decide +kernel
theorem call_f_a_X15_init_X2_286 {D : CD} {P : CP} {K : xK} {M : xM} {Q : State → Prop} {τ τ1 : CS} {x0 : Nat} {x1 : Int32} {pc : Nat} {loc : List (Nat × Value)} {st : List Value} (hf : f_a_X15_init x0 x1 τ = some τ1) (ho : M.2.2.1 = RX2) (hfr : 5 ≤ M.2.2.2.1) (hlo : 261 ≤ M.2.2.2.2.1) (hcat : (st.map fun v => v.category).sum ≤ 8) (d : decode M.1 pc = .ok (.invokespecial 286, 3)) (k : xV (wC D P) K M Q τ1 (pc + 3) loc st) : xV (wC D P) K M Q τ pc loc (.int x1 :: .ref x0 :: st) :=
  yc_callI (g := τ.1) (c := τ.2) (g1 := τ1.1) (c1 := τ1.2) (As := [.int x1]) (rest := st) (met_f_a_X15_init K.2.1 hf) (lw_meth q1179) q1177 q1178 q206 rfl hd_f_a_X15_init ho hfr hlo rfl rfl hcat d k
theorem call_f_x_X2_fact_X2_300_r {D : CD} {P : CP} {K : xK} {M : xM} {Q : State → Prop} {τ τ1 : CS} {x0 : Nat} {pc : Nat} {loc : List (Nat × Value)} {st : List Value} {d_ : Nat} {te_ : Nat → CS → Option ((Nat ⊕ Nat) × CS)} {fa_ : Nat → CS → Option ((Nat ⊕ Nat) × CS)} (Hte : DTE D P d_ te_) (Hfa : DFA D P d_ fa_) {r : Nat} (hf : f_x_X2_fact te_ fa_ x0 τ = some (.inl r, τ1)) (hr : gK τ.1 x0 = 3) (ho : M.2.2.1 = RX2) (hfr : 86 + 6 * d_ + 1 ≤ M.2.2.2.1) (hlo : 22 + 60 * (86 + 6 * d_) ≤ M.2.2.2.2.1) (hcat : (st.map fun v => v.category).sum ≤ 8) (d : decode M.1 pc = .ok (.invokevirtual 300, 3)) (k : xV (wC D P) K M Q τ1 (pc + 3) loc (.ref r :: st)) : xV (wC D P) K M Q τ pc loc (.ref x0 :: st) :=
  yc_callVX (g := τ.1) (c := τ.2) (Z := (.inl (some (.ref r)), τ1)) (As := []) (rest := st) (met_f_x_X2_fact K.2.1 Hte Hfa hf) (lw_V q1198 q1200 qs32 q179 q1201) ⟨rfl, hd_f_x_X2_fact⟩ ho hfr hlo rfl hr (by decide) (by decide) rfl rfl hcat d (yx_ret (v := some (.ref r)) k) yx_noT
theorem call_f_x_X2_fact_X2_300_t {D : CD} {P : CP} {K : xK} {M : xM} {Q : State → Prop} {τ τ1 : CS} {x0 : Nat} {pc : Nat} {loc : List (Nat × Value)} {st : List Value} {d_ : Nat} {te_ : Nat → CS → Option ((Nat ⊕ Nat) × CS)} {fa_ : Nat → CS → Option ((Nat ⊕ Nat) × CS)} (Hte : DTE D P d_ te_) (Hfa : DFA D P d_ fa_) {q : Nat} (hf : f_x_X2_fact te_ fa_ x0 τ = some (.inr q, τ1)) (hr : gK τ.1 x0 = 3) (ho : M.2.2.1 = RX2) (hfr : 86 + 6 * d_ + 1 ≤ M.2.2.2.1) (hlo : 22 + 60 * (86 + 6 * d_) ≤ M.2.2.2.2.1) (hcat : (st.map fun v => v.category).sum ≤ 8) (d : decode M.1 pc = .ok (.invokevirtual 300, 3)) (k : xT (wC D P) K M Q τ1 pc loc q) : xV (wC D P) K M Q τ pc loc (.ref x0 :: st) :=
  yc_callVX (g := τ.1) (c := τ.2) (Z := (.inr q, τ1)) (As := []) (rest := st) (met_f_x_X2_fact K.2.1 Hte Hfa hf) (lw_V q1198 q1200 qs32 q179 q1201) ⟨rfl, hd_f_x_X2_fact⟩ ho hfr hlo rfl hr (by decide) (by decide) rfl rfl hcat d yx_noR (yx_thr k)
abbrev mX2_both (d_ : Nat) : xM := (cX2_both, 2, RX2, (87 + 6 * d_), (60 * (87 + 6 * d_)), (some (.object "BentRiver$Test")), "both")
def Bc_X2_both_23 (te_ : Nat → CS → Option ((Nat ⊕ Nat) × CS)) (fa_ : Nat → CS → Option ((Nat ⊕ Nat) × CS)) (x0 : Nat) (x1 : Nat) (τ : CS) : Option ((CS) ⊕ ((CS) ⊕ (((Nat ⊕ Nat) × CS)))) :=
  if gT τ.1 x0 = 3 then
  xbx (f_x_X2_passes x0 (gA τ.1 0 119) τ) (fun r10 τ10 =>
  if r10 = 0 then
  some (.inr (.inl τ10))
  else
  if gT τ10.1 x1 = 13 then
  (gR τ10.1 1300 x1).bind fun b12 =>
  if gT τ10.1 x0 = 3 then
  xbx (f_x_X2_fact te_ fa_ x0 τ10) (fun r14 τ14 =>
  if gT τ14.1 b12 = 18 then
  xbd (f_a_J2_add b12 r14 τ14) fun r16 τ16 =>
  some (.inl τ16)
  else none) (fun q17 τ17 => some (.inr (.inr (.inr q17, τ17))))
  else none
  else none) (fun q18 τ18 => some (.inr (.inr (.inr q18, τ18))))
  else none
theorem ok_Bc_X2_both_23 {D : CD} {P : CP} {K : xK} (hno : xNoT K) {d_ : Nat} {te_ : Nat → CS → Option ((Nat ⊕ Nat) × CS)} {fa_ : Nat → CS → Option ((Nat ⊕ Nat) × CS)} (Hte : DTE D P d_ te_) (Hfa : DFA D P d_ fa_) {Z : (Option Value ⊕ Nat) × CS} {x0 : Nat} {x1 : Nat} {τ : CS} {o_ : ((CS) ⊕ ((CS) ⊕ (((Nat ⊕ Nat) × CS))))} (hf : Bc_X2_both_23 te_ fa_ x0 x1 τ = some o_) (kc : ∀ s_ : CS, o_ = .inl s_ → xV (wC D P) K (mX2_both d_) (xQX (wC D P) K Z) s_ 23 [(0, .ref x0), (1, .ref x1)] []) (ke0 : ∀ e_ : CS, o_ = .inr (.inl e_) → xV (wC D P) K (mX2_both d_) (xQX (wC D P) K Z) e_ 50 [(1, .ref x1)] []) (kr : ∀ r_ : ((Nat ⊕ Nat) × CS), o_ = .inr (.inr r_) → Z = (xzR r_.1, r_.2)) : xV (wC D P) K (mX2_both d_) (xQX (wC D P) K Z) τ 23 [(0, .ref x0), (1, .ref x1)] [] := by
  unfold Bc_X2_both_23 at hf
  refine xr_aload_n (pc := 23) 0 dX2_both_23 rfl rfl ?_
  refine yc_ldcSw (pc := 24) 19 (by decide) rfl rfl dX2_both_24 ?_
  obtain ⟨ht9, hf⟩ := xo_if hf
  rcases xo_bx hf with ⟨r10, τ10, hτ10, hf⟩ | ⟨q18, τ18, hτ18, hf⟩
  · refine call_f_x_X2_passes_X2_297_r (pc := 27) hτ10 (gKo ht9 (by decide)) rfl (by show 10 ≤ 87 + 6 * d_; omega) (by show 562 ≤ 60 * (87 + 6 * d_); omega) (Nat.le_of_ble_eq_true rfl) dX2_both_27 ?_
    refine xr_if_eq (pc := 30) 50 dX2_both_30 (by decide) (fun c_ => ?_) (fun c_ => ?_)
    · have hf := xo_pos c_ hf
      refine xV_sub [1] rfl ?_
      exact ke0 _ (Option.some.inj hf).symm
    · have hf := xo_neg c_ hf
      refine xr_aload_n (pc := 33) 1 dX2_both_33 rfl rfl ?_
      obtain ⟨ht11, hf⟩ := xo_if hf
      obtain ⟨b12, hb12, hf⟩ := xo_bind hf
      refine yc_getFsN (pc := 34) 13 0 1300 (gKo ht11 (by decide)) (by decide) (by decide) (by decide) rfl rfl hb12 q1187 (ys_eq rfl) rfl dX2_both_34 ?_
      refine xr_aload_n (pc := 37) 0 dX2_both_37 rfl rfl ?_
      obtain ⟨ht13, hf⟩ := xo_if hf
      rcases xo_bx hf with ⟨r14, τ14, hτ14, hf⟩ | ⟨q17, τ17, hτ17, hf⟩
      · refine call_f_x_X2_fact_X2_300_r (pc := 38) Hte Hfa hτ14 (gKo ht13 (by decide)) rfl (by show 86 + 6 * d_ + 1 ≤ 87 + 6 * d_; omega) (by show 22 + 60 * (86 + 6 * d_) ≤ 60 * (87 + 6 * d_); omega) (Nat.le_of_ble_eq_true rfl) dX2_both_38 ?_
        obtain ⟨ht15, hf⟩ := xo_if hf
        obtain ⟨r16, τ16, hτ16, hf⟩ := xo_bd hf
        refine call_f_a_J2_add_X2_202 (pc := 41) hτ16 (gKo ht15 (by decide)) rfl (by show 7 ≤ 87 + 6 * d_; omega) (by show 381 ≤ 60 * (87 + 6 * d_); omega) (Nat.le_of_ble_eq_true rfl) dX2_both_41 ?_
        refine xr_pop (pc := 46) dX2_both_46 rfl ?_
        refine xr_goto (pc := 47) 23 dX2_both_47 (by decide) ?_
        exact kc _ (Option.some.inj hf).symm
      · refine call_f_x_X2_fact_X2_300_t (pc := 38) Hte Hfa hτ17 (gKo ht13 (by decide)) rfl (by show 86 + 6 * d_ + 1 ≤ 87 + 6 * d_; omega) (by show 22 + 60 * (86 + 6 * d_) ≤ 60 * (87 + 6 * d_); omega) (Nat.le_of_ble_eq_true rfl) dX2_both_38 ?_
        rw [kr _ (Option.some.inj hf).symm]
        exact xT_out hno
  · refine call_f_x_X2_passes_X2_297_t (pc := 27) hτ18 (gKo ht9 (by decide)) rfl (by show 10 ≤ 87 + 6 * d_; omega) (by show 562 ≤ 60 * (87 + 6 * d_); omega) (Nat.le_of_ble_eq_true rfl) dX2_both_27 ?_
    rw [kr _ (Option.some.inj hf).symm]
    exact xT_out hno
def f_x_X2_both (te_ : Nat → CS → Option ((Nat ⊕ Nat) × CS)) (fa_ : Nat → CS → Option ((Nat ⊕ Nat) × CS)) (x0 : Nat) (τ : CS) : Option ((Nat ⊕ Nat) × CS) :=
  xbd (aNew 13 τ) fun r1 τ1 =>
  (f_a_X15_init r1 1 τ1).bind fun τ2 =>
  if gT τ2.1 r1 = 13 then
  (gR τ2.1 1300 r1).bind fun b4 =>
  if gT τ2.1 x0 = 3 then
  xbx (f_x_X2_fact te_ fa_ x0 τ2) (fun r6 τ6 =>
  if gT τ6.1 b4 = 18 then
  xbd (f_a_J2_add b4 r6 τ6) fun r8 τ8 =>
  (itr (fun s_ : CS => Bc_X2_both_23 te_ fa_ x0 r1 s_) 4096 τ8).bind fun b19 =>
  (Sum.elim (fun e20 => some ((.inl r1, e20))) (fun r_ => some r_)) b19
  else none) (fun q21 τ21 => some ((.inr q21, τ21)))
  else none
  else none
theorem ok_f_x_X2_both {D : CD} {P : CP} {K : xK} (hno : xNoT K) {d_ : Nat} {te_ : Nat → CS → Option ((Nat ⊕ Nat) × CS)} {fa_ : Nat → CS → Option ((Nat ⊕ Nat) × CS)} (Hte : DTE D P d_ te_) (Hfa : DFA D P d_ fa_) {Z : (Option Value ⊕ Nat) × CS} {x0 : Nat} {τ : CS} {o_ : ((Nat ⊕ Nat) × CS)} (hf : f_x_X2_both te_ fa_ x0 τ = some o_) (kr : ∀ r_ : ((Nat ⊕ Nat) × CS), o_ = r_ → Z = (xzR r_.1, r_.2)) : xV (wC D P) K (mX2_both d_) (xQX (wC D P) K Z) τ 0 [(0, .ref x0)] [] := by
  unfold f_x_X2_both at hf
  obtain ⟨r1, τ1, hτ1, hf⟩ := xo_bd hf
  refine yc_aNew (pc := 0) 13 (by decide) (by decide) q1175 q1176 q206 hτ1 rfl dX2_both_0 ?_
  refine xr_dup (pc := 3) dX2_both_3 rfl ?_
  refine xr_iconst (pc := 4) dX2_both_4 xci_1 ?_
  obtain ⟨τ2, hτ2, hf⟩ := xo_bind hf
  refine call_f_a_X15_init_X2_286 (pc := 5) hτ2 rfl (by show 5 ≤ 87 + 6 * d_; omega) (by show 261 ≤ 60 * (87 + 6 * d_); omega) (Nat.le_of_ble_eq_true rfl) dX2_both_5 ?_
  refine xr_astore_n (pc := 8) (loc' := [(1, .ref r1), (0, .ref x0)]) dX2_both_8 rfl (by show 1 < 2; decide) rfl ?_
  refine xr_aload_n (pc := 9) 0 dX2_both_9 rfl rfl ?_
  obtain ⟨ht3, hf⟩ := xo_if hf
  obtain ⟨b4, hb4, hf⟩ := xo_bind hf
  refine yc_getFsN (pc := 10) 13 0 1300 (gKo ht3 (by decide)) (by decide) (by decide) (by decide) rfl rfl hb4 q1187 (ys_eq rfl) rfl dX2_both_10 ?_
  refine xr_aload_n (pc := 13) 1 dX2_both_13 rfl rfl ?_
  obtain ⟨ht5, hf⟩ := xo_if hf
  rcases xo_bx hf with ⟨r6, τ6, hτ6, hf⟩ | ⟨q21, τ21, hτ21, hf⟩
  · refine call_f_x_X2_fact_X2_300_r (pc := 14) Hte Hfa hτ6 (gKo ht5 (by decide)) rfl (by show 86 + 6 * d_ + 1 ≤ 87 + 6 * d_; omega) (by show 22 + 60 * (86 + 6 * d_) ≤ 60 * (87 + 6 * d_); omega) (Nat.le_of_ble_eq_true rfl) dX2_both_14 ?_
    obtain ⟨ht7, hf⟩ := xo_if hf
    obtain ⟨r8, τ8, hτ8, hf⟩ := xo_bd hf
    refine call_f_a_J2_add_X2_202 (pc := 17) hτ8 (gKo ht7 (by decide)) rfl (by show 7 ≤ 87 + 6 * d_; omega) (by show 381 ≤ 60 * (87 + 6 * d_); omega) (Nat.le_of_ble_eq_true rfl) dX2_both_17 ?_
    refine xr_pop (pc := 22) dX2_both_22 rfl ?_
    refine xV_sub [1, 0] rfl ?_
    obtain ⟨b19, hb19, hf⟩ := xo_bind hf
    refine itr_rule (P := fun s_ : CS => xV (wC D P) K (mX2_both d_) (xQX (wC D P) K Z) s_ 23 [(0, .ref x0), (1, .ref r1)] []) (fun s_ o_ hB_ hc_ he_ => ok_Bc_X2_both_23 hno Hte Hfa hB_ hc_ (fun e20 h_ => ?_) (fun r_ h_ => ?_)) 4096 _ hb19
    · have e9_ := he_ _ h_
      subst e9_
      have hf := xo_inl hf
      refine xr_aload_n (pc := 50) 0 dX2_both_50 rfl rfl ?_
      rw [kr _ (Option.some.inj hf).symm]
      exact xV_ret (xr_aret (pc := 51) dX2_both_51 rfl (Or.inl ⟨_, rfl⟩))
    · have e9_ := he_ _ h_
      subst e9_
      have hf := xo_inr hf
      exact kr _ (Option.some.inj hf).symm
  · refine call_f_x_X2_fact_X2_300_t (pc := 14) Hte Hfa hτ21 (gKo ht5 (by decide)) rfl (by show 86 + 6 * d_ + 1 ≤ 87 + 6 * d_; omega) (by show 22 + 60 * (86 + 6 * d_) ≤ 60 * (87 + 6 * d_); omega) (Nat.le_of_ble_eq_true rfl) dX2_both_14 ?_
    rw [kr _ (Option.some.inj hf).symm]
    exact xT_out hno
theorem met_f_x_X2_both (l : Launch) {D : CD} {P : CP} {d_ : Nat} {te_ : Nat → CS → Option ((Nat ⊕ Nat) × CS)} {fa_ : Nat → CS → Option ((Nat ⊕ Nat) × CS)} (Hte : DTE D P d_ te_) (Hfa : DFA D P d_ fa_) {x0 : Nat} {τ : CS} {o_ : ((Nat ⊕ Nat) × CS)} (hf : f_x_X2_both te_ fa_ x0 τ = some o_) : xMetX (wC D P) l yX2_both (ws_ yX2_both cX2_both 2 (some (.object "BentRiver$Test"))) (87 + 6 * d_) (60 * (87 + 6 * d_)) (grc τ.1) (grs τ.1) [.ref x0] τ (xzR o_.1, o_.2) := 
  xMetX_of (by decide) (Nat.le_of_ble_eq_true rfl) KC_moved (RPC_of (g := τ.1) (c := τ.2)) (fun K _ _ _ hno => ok_f_x_X2_both hno Hte Hfa hf (fun _ h => by rw [h]))
theorem hd_f_x_X2_both : yX2_both.cls ≠ "java/lang/invoke/MethodHandle" ∧ yX2_both.cls ≠ "java/lang/invoke/VarHandle" ∧ (parseMethodDescriptor yX2_both.desc).map (fun d => d.parameters.length) = some 0 := by decide +kernel
theorem call_f_x_X2_both_X2_292_r {D : CD} {P : CP} {K : xK} {M : xM} {Q : State → Prop} {τ τ1 : CS} {x0 : Nat} {pc : Nat} {loc : List (Nat × Value)} {st : List Value} {d_ : Nat} {te_ : Nat → CS → Option ((Nat ⊕ Nat) × CS)} {fa_ : Nat → CS → Option ((Nat ⊕ Nat) × CS)} (Hte : DTE D P d_ te_) (Hfa : DFA D P d_ fa_) {r : Nat} (hf : f_x_X2_both te_ fa_ x0 τ = some (.inl r, τ1)) (hr : gK τ.1 x0 = 3) (ho : M.2.2.1 = RX2) (hfr : 87 + 6 * d_ + 1 ≤ M.2.2.2.1) (hlo : 21 + 60 * (87 + 6 * d_) ≤ M.2.2.2.2.1) (hcat : (st.map fun v => v.category).sum ≤ 8) (d : decode M.1 pc = .ok (.invokevirtual 292, 3)) (k : xV (wC D P) K M Q τ1 (pc + 3) loc (.ref r :: st)) : xV (wC D P) K M Q τ pc loc (.ref x0 :: st) :=
  yc_callVX (g := τ.1) (c := τ.2) (Z := (.inl (some (.ref r)), τ1)) (As := []) (rest := st) (met_f_x_X2_both K.2.1 Hte Hfa hf) (lw_V q1194 q1196 qs31 q179 q1197) ⟨rfl, hd_f_x_X2_both⟩ ho hfr hlo rfl hr (by decide) (by decide) rfl rfl hcat d (yx_ret (v := some (.ref r)) k) yx_noT
theorem call_f_x_X2_both_X2_292_t {D : CD} {P : CP} {K : xK} {M : xM} {Q : State → Prop} {τ τ1 : CS} {x0 : Nat} {pc : Nat} {loc : List (Nat × Value)} {st : List Value} {d_ : Nat} {te_ : Nat → CS → Option ((Nat ⊕ Nat) × CS)} {fa_ : Nat → CS → Option ((Nat ⊕ Nat) × CS)} (Hte : DTE D P d_ te_) (Hfa : DFA D P d_ fa_) {q : Nat} (hf : f_x_X2_both te_ fa_ x0 τ = some (.inr q, τ1)) (hr : gK τ.1 x0 = 3) (ho : M.2.2.1 = RX2) (hfr : 87 + 6 * d_ + 1 ≤ M.2.2.2.1) (hlo : 21 + 60 * (87 + 6 * d_) ≤ M.2.2.2.2.1) (hcat : (st.map fun v => v.category).sum ≤ 8) (d : decode M.1 pc = .ok (.invokevirtual 292, 3)) (k : xT (wC D P) K M Q τ1 pc loc q) : xV (wC D P) K M Q τ pc loc (.ref x0 :: st) :=
  yc_callVX (g := τ.1) (c := τ.2) (Z := (.inr q, τ1)) (As := []) (rest := st) (met_f_x_X2_both K.2.1 Hte Hfa hf) (lw_V q1194 q1196 qs31 q179 q1197) ⟨rfl, hd_f_x_X2_both⟩ ho hfr hlo rfl hr (by decide) (by decide) rfl rfl hcat d yx_noR (yx_thr k)
abbrev mX2_test (d_ : Nat) : xM := (cX2_test, 2, RX2, (88 + 6 * d_), (60 * (88 + 6 * d_)), (some (.object "BentRiver$Test")), "test")
def Bc_X2_test_23 (te_ : Nat → CS → Option ((Nat ⊕ Nat) × CS)) (fa_ : Nat → CS → Option ((Nat ⊕ Nat) × CS)) (x0 : Nat) (x1 : Nat) (τ : CS) : Option ((CS) ⊕ ((CS) ⊕ (((Nat ⊕ Nat) × CS)))) :=
  if gT τ.1 x0 = 3 then
  xbx (f_x_X2_passes x0 (gA τ.1 0 120) τ) (fun r10 τ10 =>
  if r10 = 0 then
  some (.inr (.inl τ10))
  else
  if gT τ10.1 x1 = 13 then
  (gR τ10.1 1300 x1).bind fun b12 =>
  if gT τ10.1 x0 = 3 then
  xbx (f_x_X2_both te_ fa_ x0 τ10) (fun r14 τ14 =>
  if gT τ14.1 b12 = 18 then
  xbd (f_a_J2_add b12 r14 τ14) fun r16 τ16 =>
  some (.inl τ16)
  else none) (fun q17 τ17 => some (.inr (.inr (.inr q17, τ17))))
  else none
  else none) (fun q18 τ18 => some (.inr (.inr (.inr q18, τ18))))
  else none
theorem ok_Bc_X2_test_23 {D : CD} {P : CP} {K : xK} (hno : xNoT K) {d_ : Nat} {te_ : Nat → CS → Option ((Nat ⊕ Nat) × CS)} {fa_ : Nat → CS → Option ((Nat ⊕ Nat) × CS)} (Hte : DTE D P d_ te_) (Hfa : DFA D P d_ fa_) {Z : (Option Value ⊕ Nat) × CS} {x0 : Nat} {x1 : Nat} {τ : CS} {o_ : ((CS) ⊕ ((CS) ⊕ (((Nat ⊕ Nat) × CS))))} (hf : Bc_X2_test_23 te_ fa_ x0 x1 τ = some o_) (kc : ∀ s_ : CS, o_ = .inl s_ → xV (wC D P) K (mX2_test d_) (xQX (wC D P) K Z) s_ 23 [(0, .ref x0), (1, .ref x1)] []) (ke0 : ∀ e_ : CS, o_ = .inr (.inl e_) → xV (wC D P) K (mX2_test d_) (xQX (wC D P) K Z) e_ 50 [(1, .ref x1)] []) (kr : ∀ r_ : ((Nat ⊕ Nat) × CS), o_ = .inr (.inr r_) → Z = (xzR r_.1, r_.2)) : xV (wC D P) K (mX2_test d_) (xQX (wC D P) K Z) τ 23 [(0, .ref x0), (1, .ref x1)] [] := by
  unfold Bc_X2_test_23 at hf
  refine xr_aload_n (pc := 23) 0 dX2_test_23 rfl rfl ?_
  refine yc_ldcSw (pc := 24) 20 (by decide) rfl rfl dX2_test_24 ?_
  obtain ⟨ht9, hf⟩ := xo_if hf
  rcases xo_bx hf with ⟨r10, τ10, hτ10, hf⟩ | ⟨q18, τ18, hτ18, hf⟩
  · refine call_f_x_X2_passes_X2_297_r (pc := 27) hτ10 (gKo ht9 (by decide)) rfl (by show 10 ≤ 88 + 6 * d_; omega) (by show 562 ≤ 60 * (88 + 6 * d_); omega) (Nat.le_of_ble_eq_true rfl) dX2_test_27 ?_
    refine xr_if_eq (pc := 30) 50 dX2_test_30 (by decide) (fun c_ => ?_) (fun c_ => ?_)
    · have hf := xo_pos c_ hf
      refine xV_sub [1] rfl ?_
      exact ke0 _ (Option.some.inj hf).symm
    · have hf := xo_neg c_ hf
      refine xr_aload_n (pc := 33) 1 dX2_test_33 rfl rfl ?_
      obtain ⟨ht11, hf⟩ := xo_if hf
      obtain ⟨b12, hb12, hf⟩ := xo_bind hf
      refine yc_getFsN (pc := 34) 13 0 1300 (gKo ht11 (by decide)) (by decide) (by decide) (by decide) rfl rfl hb12 q1187 (ys_eq rfl) rfl dX2_test_34 ?_
      refine xr_aload_n (pc := 37) 0 dX2_test_37 rfl rfl ?_
      obtain ⟨ht13, hf⟩ := xo_if hf
      rcases xo_bx hf with ⟨r14, τ14, hτ14, hf⟩ | ⟨q17, τ17, hτ17, hf⟩
      · refine call_f_x_X2_both_X2_292_r (pc := 38) Hte Hfa hτ14 (gKo ht13 (by decide)) rfl (by show 87 + 6 * d_ + 1 ≤ 88 + 6 * d_; omega) (by show 21 + 60 * (87 + 6 * d_) ≤ 60 * (88 + 6 * d_); omega) (Nat.le_of_ble_eq_true rfl) dX2_test_38 ?_
        obtain ⟨ht15, hf⟩ := xo_if hf
        obtain ⟨r16, τ16, hτ16, hf⟩ := xo_bd hf
        refine call_f_a_J2_add_X2_202 (pc := 41) hτ16 (gKo ht15 (by decide)) rfl (by show 7 ≤ 88 + 6 * d_; omega) (by show 381 ≤ 60 * (88 + 6 * d_); omega) (Nat.le_of_ble_eq_true rfl) dX2_test_41 ?_
        refine xr_pop (pc := 46) dX2_test_46 rfl ?_
        refine xr_goto (pc := 47) 23 dX2_test_47 (by decide) ?_
        exact kc _ (Option.some.inj hf).symm
      · refine call_f_x_X2_both_X2_292_t (pc := 38) Hte Hfa hτ17 (gKo ht13 (by decide)) rfl (by show 87 + 6 * d_ + 1 ≤ 88 + 6 * d_; omega) (by show 21 + 60 * (87 + 6 * d_) ≤ 60 * (88 + 6 * d_); omega) (Nat.le_of_ble_eq_true rfl) dX2_test_38 ?_
        rw [kr _ (Option.some.inj hf).symm]
        exact xT_out hno
  · refine call_f_x_X2_passes_X2_297_t (pc := 27) hτ18 (gKo ht9 (by decide)) rfl (by show 10 ≤ 88 + 6 * d_; omega) (by show 562 ≤ 60 * (88 + 6 * d_); omega) (Nat.le_of_ble_eq_true rfl) dX2_test_27 ?_
    rw [kr _ (Option.some.inj hf).symm]
    exact xT_out hno
def f_x_X2_test (te_ : Nat → CS → Option ((Nat ⊕ Nat) × CS)) (fa_ : Nat → CS → Option ((Nat ⊕ Nat) × CS)) (x0 : Nat) (τ : CS) : Option ((Nat ⊕ Nat) × CS) :=
  xbd (aNew 13 τ) fun r1 τ1 =>
  (f_a_X15_init r1 0 τ1).bind fun τ2 =>
  if gT τ2.1 r1 = 13 then
  (gR τ2.1 1300 r1).bind fun b4 =>
  if gT τ2.1 x0 = 3 then
  xbx (f_x_X2_both te_ fa_ x0 τ2) (fun r6 τ6 =>
  if gT τ6.1 b4 = 18 then
  xbd (f_a_J2_add b4 r6 τ6) fun r8 τ8 =>
  (itr (fun s_ : CS => Bc_X2_test_23 te_ fa_ x0 r1 s_) 4096 τ8).bind fun b19 =>
  (Sum.elim (fun e20 => some ((.inl r1, e20))) (fun r_ => some r_)) b19
  else none) (fun q21 τ21 => some ((.inr q21, τ21)))
  else none
  else none
theorem ok_f_x_X2_test {D : CD} {P : CP} {K : xK} (hno : xNoT K) {d_ : Nat} {te_ : Nat → CS → Option ((Nat ⊕ Nat) × CS)} {fa_ : Nat → CS → Option ((Nat ⊕ Nat) × CS)} (Hte : DTE D P d_ te_) (Hfa : DFA D P d_ fa_) {Z : (Option Value ⊕ Nat) × CS} {x0 : Nat} {τ : CS} {o_ : ((Nat ⊕ Nat) × CS)} (hf : f_x_X2_test te_ fa_ x0 τ = some o_) (kr : ∀ r_ : ((Nat ⊕ Nat) × CS), o_ = r_ → Z = (xzR r_.1, r_.2)) : xV (wC D P) K (mX2_test d_) (xQX (wC D P) K Z) τ 0 [(0, .ref x0)] [] := by
  unfold f_x_X2_test at hf
  obtain ⟨r1, τ1, hτ1, hf⟩ := xo_bd hf
  refine yc_aNew (pc := 0) 13 (by decide) (by decide) q1175 q1176 q206 hτ1 rfl dX2_test_0 ?_
  refine xr_dup (pc := 3) dX2_test_3 rfl ?_
  refine xr_iconst (pc := 4) dX2_test_4 xci_0 ?_
  obtain ⟨τ2, hτ2, hf⟩ := xo_bind hf
  refine call_f_a_X15_init_X2_286 (pc := 5) hτ2 rfl (by show 5 ≤ 88 + 6 * d_; omega) (by show 261 ≤ 60 * (88 + 6 * d_); omega) (Nat.le_of_ble_eq_true rfl) dX2_test_5 ?_
  refine xr_astore_n (pc := 8) (loc' := [(1, .ref r1), (0, .ref x0)]) dX2_test_8 rfl (by show 1 < 2; decide) rfl ?_
  refine xr_aload_n (pc := 9) 0 dX2_test_9 rfl rfl ?_
  obtain ⟨ht3, hf⟩ := xo_if hf
  obtain ⟨b4, hb4, hf⟩ := xo_bind hf
  refine yc_getFsN (pc := 10) 13 0 1300 (gKo ht3 (by decide)) (by decide) (by decide) (by decide) rfl rfl hb4 q1187 (ys_eq rfl) rfl dX2_test_10 ?_
  refine xr_aload_n (pc := 13) 1 dX2_test_13 rfl rfl ?_
  obtain ⟨ht5, hf⟩ := xo_if hf
  rcases xo_bx hf with ⟨r6, τ6, hτ6, hf⟩ | ⟨q21, τ21, hτ21, hf⟩
  · refine call_f_x_X2_both_X2_292_r (pc := 14) Hte Hfa hτ6 (gKo ht5 (by decide)) rfl (by show 87 + 6 * d_ + 1 ≤ 88 + 6 * d_; omega) (by show 21 + 60 * (87 + 6 * d_) ≤ 60 * (88 + 6 * d_); omega) (Nat.le_of_ble_eq_true rfl) dX2_test_14 ?_
    obtain ⟨ht7, hf⟩ := xo_if hf
    obtain ⟨r8, τ8, hτ8, hf⟩ := xo_bd hf
    refine call_f_a_J2_add_X2_202 (pc := 17) hτ8 (gKo ht7 (by decide)) rfl (by show 7 ≤ 88 + 6 * d_; omega) (by show 381 ≤ 60 * (88 + 6 * d_); omega) (Nat.le_of_ble_eq_true rfl) dX2_test_17 ?_
    refine xr_pop (pc := 22) dX2_test_22 rfl ?_
    refine xV_sub [1, 0] rfl ?_
    obtain ⟨b19, hb19, hf⟩ := xo_bind hf
    refine itr_rule (P := fun s_ : CS => xV (wC D P) K (mX2_test d_) (xQX (wC D P) K Z) s_ 23 [(0, .ref x0), (1, .ref r1)] []) (fun s_ o_ hB_ hc_ he_ => ok_Bc_X2_test_23 hno Hte Hfa hB_ hc_ (fun e20 h_ => ?_) (fun r_ h_ => ?_)) 4096 _ hb19
    · have e9_ := he_ _ h_
      subst e9_
      have hf := xo_inl hf
      refine xr_aload_n (pc := 50) 0 dX2_test_50 rfl rfl ?_
      rw [kr _ (Option.some.inj hf).symm]
      exact xV_ret (xr_aret (pc := 51) dX2_test_51 rfl (Or.inl ⟨_, rfl⟩))
    · have e9_ := he_ _ h_
      subst e9_
      have hf := xo_inr hf
      exact kr _ (Option.some.inj hf).symm
  · refine call_f_x_X2_both_X2_292_t (pc := 14) Hte Hfa hτ21 (gKo ht5 (by decide)) rfl (by show 87 + 6 * d_ + 1 ≤ 88 + 6 * d_; omega) (by show 21 + 60 * (87 + 6 * d_) ≤ 60 * (88 + 6 * d_); omega) (Nat.le_of_ble_eq_true rfl) dX2_test_14 ?_
    rw [kr _ (Option.some.inj hf).symm]
    exact xT_out hno
theorem met_f_x_X2_test (l : Launch) {D : CD} {P : CP} {d_ : Nat} {te_ : Nat → CS → Option ((Nat ⊕ Nat) × CS)} {fa_ : Nat → CS → Option ((Nat ⊕ Nat) × CS)} (Hte : DTE D P d_ te_) (Hfa : DFA D P d_ fa_) {x0 : Nat} {τ : CS} {o_ : ((Nat ⊕ Nat) × CS)} (hf : f_x_X2_test te_ fa_ x0 τ = some o_) : xMetX (wC D P) l yX2_test (ws_ yX2_test cX2_test 2 (some (.object "BentRiver$Test"))) (88 + 6 * d_) (60 * (88 + 6 * d_)) (grc τ.1) (grs τ.1) [.ref x0] τ (xzR o_.1, o_.2) := 
  xMetX_of (by decide) (Nat.le_of_ble_eq_true rfl) KC_moved (RPC_of (g := τ.1) (c := τ.2)) (fun K _ _ _ hno => ok_f_x_X2_test hno Hte Hfa hf (fun _ h => by rw [h]))
def d_tefa : Nat → (Nat → CS → Option ((Nat ⊕ Nat) × CS)) × (Nat → CS → Option ((Nat ⊕ Nat) × CS))
  | 0 => (fun _ _ => none, fun _ _ => none)
  | d + 1 => (f_x_X2_test (d_tefa d).1 (d_tefa d).2, f_x_X2_fact (d_tefa d).1 (d_tefa d).2)
def d_te (d : Nat) : Nat → CS → Option ((Nat ⊕ Nat) × CS) := (d_tefa d).1
def d_fa (d : Nat) : Nat → CS → Option ((Nat ⊕ Nat) × CS) := (d_tefa d).2
theorem all_tefa {D : CD} {P : CP} : ∀ d, DTE D P d (d_tefa d).1 ∧ DFA D P d (d_tefa d).2
  | 0 => ⟨fun l x0 τ o h => (by cases h), fun l x0 τ o h => (by cases h)⟩
  | d + 1 => by
    obtain ⟨h1, h2⟩ := all_tefa (D := D) (P := P) d
    refine ⟨fun l x0 τ o h => ?_, fun l x0 τ o h => ?_⟩
    · have hm := met_f_x_X2_test l h1 h2 (show f_x_X2_test (d_tefa d).1 (d_tefa d).2 x0 τ = some o from h)
      rw [show 88 + 6 * d = 82 + 6 * (d + 1) by omega] at hm
      exact hm
    · have hm := met_f_x_X2_fact l h1 h2 (show f_x_X2_fact (d_tefa d).1 (d_tefa d).2 x0 τ = some o from h)
      rw [show 86 + 6 * d = 80 + 6 * (d + 1) by omega] at hm
      exact hm
theorem all_te {D : CD} {P : CP} (d : Nat) : DTE D P d (d_te d) := (all_tefa d).1
theorem all_fa {D : CD} {P : CP} (d : Nat) : DFA D P d (d_fa d) := (all_tefa d).2
